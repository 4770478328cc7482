set_option maxRecDepth 100000
abbrev cX0_cook : ByteArray := method_3_code
def dkwX0_cook_0 : List UInt8 := [44, 3, 42, 27, 182, 0, 7, 133, 80, 167, 0, 9, 78, 4, 172, 78, 5, 172, 3, 172]
abbrev dktX0_cook_0 : List UInt8 := dkwX0_cook_0 ++ []
theorem dksX0_cook_0 : cX0_cook.data.toList.drop 0 = dktX0_cook_0 := by decide +kernel
theorem dX0_cook_0 : decode cX0_cook 0 = .ok (.aload_n 2, 1) := dk_44 (dk_at dksX0_cook_0 0 rfl rfl)
theorem dX0_cook_1 : decode cX0_cook 1 = .ok (.iconst 0, 1) := dk_3 (dk_at dksX0_cook_0 1 rfl rfl)
theorem dX0_cook_2 : decode cX0_cook 2 = .ok (.aload_n 0, 1) := dk_42 (dk_at dksX0_cook_0 2 rfl rfl)
theorem dX0_cook_3 : decode cX0_cook 3 = .ok (.iload_n 1, 1) := dk_27 (dk_at dksX0_cook_0 3 rfl rfl)
theorem dX0_cook_4 : decode cX0_cook 4 = .ok (.invokevirtual 7, 3) := dk_182 0 7 (dk_at dksX0_cook_0 4 rfl rfl)
theorem dX0_cook_7 : decode cX0_cook 7 = .ok (.i2l, 1) := dk_133 (dk_at dksX0_cook_0 7 rfl rfl)
theorem dX0_cook_8 : decode cX0_cook 8 = .ok (.lastore, 1) := dk_80 (dk_at dksX0_cook_0 8 rfl rfl)
theorem dX0_cook_9 : decode cX0_cook 9 = .ok (.goto 9, 3) := dk_167 0 9 (dk_at dksX0_cook_0 9 rfl rfl)
theorem dX0_cook_12 : decode cX0_cook 12 = .ok (.astore_n 3, 1) := dk_78 (dk_at dksX0_cook_0 12 rfl rfl)
theorem dX0_cook_13 : decode cX0_cook 13 = .ok (.iconst 1, 1) := dk_4 (dk_at dksX0_cook_0 13 rfl rfl)
theorem dX0_cook_14 : decode cX0_cook 14 = .ok (.ireturn, 1) := dk_172 (dk_at dksX0_cook_0 14 rfl rfl)
theorem dX0_cook_15 : decode cX0_cook 15 = .ok (.astore_n 3, 1) := dk_78 (dk_at dksX0_cook_0 15 rfl rfl)
theorem dX0_cook_16 : decode cX0_cook 16 = .ok (.iconst 2, 1) := dk_5 (dk_at dksX0_cook_0 16 rfl rfl)
theorem dX0_cook_17 : decode cX0_cook 17 = .ok (.ireturn, 1) := dk_172 (dk_at dksX0_cook_0 17 rfl rfl)
theorem dX0_cook_18 : decode cX0_cook 18 = .ok (.iconst 0, 1) := dk_3 (dk_at dksX0_cook_0 18 rfl rfl)
theorem dX0_cook_19 : decode cX0_cook 19 = .ok (.ireturn, 1) := dk_172 (dk_at dksX0_cook_0 19 rfl rfl)
abbrev cX0_stock : ByteArray := method_4_code
def dkwX0_stock_1 : List UInt8 := [58, 5, 6, 172, 3, 172]
abbrev dktX0_stock_1 : List UInt8 := dkwX0_stock_1 ++ []
def dkwX0_stock_0 : List UInt8 := [25, 4, 3, 42, 27, 28, 29, 182, 0, 17, 133, 80, 167, 0, 15, 58, 5, 4, 172, 58, 5, 5, 172]
abbrev dktX0_stock_0 : List UInt8 := dkwX0_stock_0 ++ dktX0_stock_1
theorem dksX0_stock_0 : cX0_stock.data.toList.drop 0 = dktX0_stock_0 := by decide +kernel
theorem dksX0_stock_1 : cX0_stock.data.toList.drop 23 = dktX0_stock_1 := dk_seg dksX0_stock_0 23 rfl rfl
theorem dX0_stock_0 : decode cX0_stock 0 = .ok (.aload 4, 2) := dk_25 4 (dk_at dksX0_stock_0 0 rfl rfl)
theorem dX0_stock_2 : decode cX0_stock 2 = .ok (.iconst 0, 1) := dk_3 (dk_at dksX0_stock_0 2 rfl rfl)
theorem dX0_stock_3 : decode cX0_stock 3 = .ok (.aload_n 0, 1) := dk_42 (dk_at dksX0_stock_0 3 rfl rfl)
theorem dX0_stock_4 : decode cX0_stock 4 = .ok (.iload_n 1, 1) := dk_27 (dk_at dksX0_stock_0 4 rfl rfl)
theorem dX0_stock_5 : decode cX0_stock 5 = .ok (.iload_n 2, 1) := dk_28 (dk_at dksX0_stock_0 5 rfl rfl)
theorem dX0_stock_6 : decode cX0_stock 6 = .ok (.iload_n 3, 1) := dk_29 (dk_at dksX0_stock_0 6 rfl rfl)
theorem dX0_stock_7 : decode cX0_stock 7 = .ok (.invokevirtual 17, 3) := dk_182 0 17 (dk_at dksX0_stock_0 7 rfl rfl)
theorem dX0_stock_10 : decode cX0_stock 10 = .ok (.i2l, 1) := dk_133 (dk_at dksX0_stock_0 10 rfl rfl)
theorem dX0_stock_11 : decode cX0_stock 11 = .ok (.lastore, 1) := dk_80 (dk_at dksX0_stock_0 11 rfl rfl)
theorem dX0_stock_12 : decode cX0_stock 12 = .ok (.goto 15, 3) := dk_167 0 15 (dk_at dksX0_stock_0 12 rfl rfl)
theorem dX0_stock_15 : decode cX0_stock 15 = .ok (.astore 5, 2) := dk_58 5 (dk_at dksX0_stock_0 15 rfl rfl)
theorem dX0_stock_17 : decode cX0_stock 17 = .ok (.iconst 1, 1) := dk_4 (dk_at dksX0_stock_0 17 rfl rfl)
theorem dX0_stock_18 : decode cX0_stock 18 = .ok (.ireturn, 1) := dk_172 (dk_at dksX0_stock_0 18 rfl rfl)
theorem dX0_stock_19 : decode cX0_stock 19 = .ok (.astore 5, 2) := dk_58 5 (dk_at dksX0_stock_0 19 rfl rfl)
theorem dX0_stock_21 : decode cX0_stock 21 = .ok (.iconst 2, 1) := dk_5 (dk_at dksX0_stock_0 21 rfl rfl)
theorem dX0_stock_22 : decode cX0_stock 22 = .ok (.ireturn, 1) := dk_172 (dk_at dksX0_stock_0 22 rfl rfl)
theorem dX0_stock_23 : decode cX0_stock 23 = .ok (.astore 5, 2) := dk_58 5 (dk_at dksX0_stock_1 0 rfl rfl)
theorem dX0_stock_25 : decode cX0_stock 25 = .ok (.iconst 3, 1) := dk_6 (dk_at dksX0_stock_1 2 rfl rfl)
theorem dX0_stock_26 : decode cX0_stock 26 = .ok (.ireturn, 1) := dk_172 (dk_at dksX0_stock_1 3 rfl rfl)
theorem dX0_stock_27 : decode cX0_stock 27 = .ok (.iconst 0, 1) := dk_3 (dk_at dksX0_stock_1 4 rfl rfl)
theorem dX0_stock_28 : decode cX0_stock 28 = .ok (.ireturn, 1) := dk_172 (dk_at dksX0_stock_1 5 rfl rfl)
abbrev cX0_cookOf : ByteArray := method_5_code
def dkwX0_cookOf_0 : List UInt8 := [45, 3, 42, 27, 28, 182, 0, 23, 133, 80, 167, 0, 11, 58, 4, 4, 172, 58, 4, 5, 172, 3, 172]
abbrev dktX0_cookOf_0 : List UInt8 := dkwX0_cookOf_0 ++ []
theorem dksX0_cookOf_0 : cX0_cookOf.data.toList.drop 0 = dktX0_cookOf_0 := by decide +kernel
theorem dX0_cookOf_0 : decode cX0_cookOf 0 = .ok (.aload_n 3, 1) := dk_45 (dk_at dksX0_cookOf_0 0 rfl rfl)
theorem dX0_cookOf_1 : decode cX0_cookOf 1 = .ok (.iconst 0, 1) := dk_3 (dk_at dksX0_cookOf_0 1 rfl rfl)
theorem dX0_cookOf_2 : decode cX0_cookOf 2 = .ok (.aload_n 0, 1) := dk_42 (dk_at dksX0_cookOf_0 2 rfl rfl)
theorem dX0_cookOf_3 : decode cX0_cookOf 3 = .ok (.iload_n 1, 1) := dk_27 (dk_at dksX0_cookOf_0 3 rfl rfl)
theorem dX0_cookOf_4 : decode cX0_cookOf 4 = .ok (.iload_n 2, 1) := dk_28 (dk_at dksX0_cookOf_0 4 rfl rfl)
theorem dX0_cookOf_5 : decode cX0_cookOf 5 = .ok (.invokevirtual 23, 3) := dk_182 0 23 (dk_at dksX0_cookOf_0 5 rfl rfl)
theorem dX0_cookOf_8 : decode cX0_cookOf 8 = .ok (.i2l, 1) := dk_133 (dk_at dksX0_cookOf_0 8 rfl rfl)
theorem dX0_cookOf_9 : decode cX0_cookOf 9 = .ok (.lastore, 1) := dk_80 (dk_at dksX0_cookOf_0 9 rfl rfl)
theorem dX0_cookOf_10 : decode cX0_cookOf 10 = .ok (.goto 11, 3) := dk_167 0 11 (dk_at dksX0_cookOf_0 10 rfl rfl)
theorem dX0_cookOf_13 : decode cX0_cookOf 13 = .ok (.astore 4, 2) := dk_58 4 (dk_at dksX0_cookOf_0 13 rfl rfl)
theorem dX0_cookOf_15 : decode cX0_cookOf 15 = .ok (.iconst 1, 1) := dk_4 (dk_at dksX0_cookOf_0 15 rfl rfl)
theorem dX0_cookOf_16 : decode cX0_cookOf 16 = .ok (.ireturn, 1) := dk_172 (dk_at dksX0_cookOf_0 16 rfl rfl)
theorem dX0_cookOf_17 : decode cX0_cookOf 17 = .ok (.astore 4, 2) := dk_58 4 (dk_at dksX0_cookOf_0 17 rfl rfl)
theorem dX0_cookOf_19 : decode cX0_cookOf 19 = .ok (.iconst 2, 1) := dk_5 (dk_at dksX0_cookOf_0 19 rfl rfl)
theorem dX0_cookOf_20 : decode cX0_cookOf 20 = .ok (.ireturn, 1) := dk_172 (dk_at dksX0_cookOf_0 20 rfl rfl)
theorem dX0_cookOf_21 : decode cX0_cookOf 21 = .ok (.iconst 0, 1) := dk_3 (dk_at dksX0_cookOf_0 21 rfl rfl)
theorem dX0_cookOf_22 : decode cX0_cookOf 22 = .ok (.ireturn, 1) := dk_172 (dk_at dksX0_cookOf_0 22 rfl rfl)
abbrev cX0_course : ByteArray := method_6_code
def dkwX0_course_0 : List UInt8 := [43, 3, 42, 182, 0, 27, 133, 80, 167, 0, 6, 77, 4, 172, 3, 172]
abbrev dktX0_course_0 : List UInt8 := dkwX0_course_0 ++ []
theorem dksX0_course_0 : cX0_course.data.toList.drop 0 = dktX0_course_0 := by decide +kernel
theorem dX0_course_0 : decode cX0_course 0 = .ok (.aload_n 1, 1) := dk_43 (dk_at dksX0_course_0 0 rfl rfl)
theorem dX0_course_1 : decode cX0_course 1 = .ok (.iconst 0, 1) := dk_3 (dk_at dksX0_course_0 1 rfl rfl)
theorem dX0_course_2 : decode cX0_course 2 = .ok (.aload_n 0, 1) := dk_42 (dk_at dksX0_course_0 2 rfl rfl)
theorem dX0_course_3 : decode cX0_course 3 = .ok (.invokevirtual 27, 3) := dk_182 0 27 (dk_at dksX0_course_0 3 rfl rfl)
theorem dX0_course_6 : decode cX0_course 6 = .ok (.i2l, 1) := dk_133 (dk_at dksX0_course_0 6 rfl rfl)
theorem dX0_course_7 : decode cX0_course 7 = .ok (.lastore, 1) := dk_80 (dk_at dksX0_course_0 7 rfl rfl)
theorem dX0_course_8 : decode cX0_course 8 = .ok (.goto 6, 3) := dk_167 0 6 (dk_at dksX0_course_0 8 rfl rfl)
theorem dX0_course_11 : decode cX0_course 11 = .ok (.astore_n 2, 1) := dk_77 (dk_at dksX0_course_0 11 rfl rfl)
theorem dX0_course_12 : decode cX0_course 12 = .ok (.iconst 1, 1) := dk_4 (dk_at dksX0_course_0 12 rfl rfl)
theorem dX0_course_13 : decode cX0_course 13 = .ok (.ireturn, 1) := dk_172 (dk_at dksX0_course_0 13 rfl rfl)
theorem dX0_course_14 : decode cX0_course 14 = .ok (.iconst 0, 1) := dk_3 (dk_at dksX0_course_0 14 rfl rfl)
theorem dX0_course_15 : decode cX0_course 15 = .ok (.ireturn, 1) := dk_172 (dk_at dksX0_course_0 15 rfl rfl)
abbrev cX0_dish : ByteArray := method_7_code
def dkwX0_dish_1 : List UInt8 := [172, 58, 6, 6, 172, 3, 172]
abbrev dktX0_dish_1 : List UInt8 := dkwX0_dish_1 ++ []
def dkwX0_dish_0 : List UInt8 := [25, 5, 3, 42, 27, 28, 29, 21, 4, 182, 0, 31, 133, 80, 167, 0, 15, 58, 6, 4, 172, 58, 6, 5]
abbrev dktX0_dish_0 : List UInt8 := dkwX0_dish_0 ++ dktX0_dish_1
theorem dksX0_dish_0 : cX0_dish.data.toList.drop 0 = dktX0_dish_0 := by decide +kernel
theorem dksX0_dish_1 : cX0_dish.data.toList.drop 24 = dktX0_dish_1 := dk_seg dksX0_dish_0 24 rfl rfl
theorem dX0_dish_0 : decode cX0_dish 0 = .ok (.aload 5, 2) := dk_25 5 (dk_at dksX0_dish_0 0 rfl rfl)
theorem dX0_dish_2 : decode cX0_dish 2 = .ok (.iconst 0, 1) := dk_3 (dk_at dksX0_dish_0 2 rfl rfl)
theorem dX0_dish_3 : decode cX0_dish 3 = .ok (.aload_n 0, 1) := dk_42 (dk_at dksX0_dish_0 3 rfl rfl)
theorem dX0_dish_4 : decode cX0_dish 4 = .ok (.iload_n 1, 1) := dk_27 (dk_at dksX0_dish_0 4 rfl rfl)
theorem dX0_dish_5 : decode cX0_dish 5 = .ok (.iload_n 2, 1) := dk_28 (dk_at dksX0_dish_0 5 rfl rfl)
theorem dX0_dish_6 : decode cX0_dish 6 = .ok (.iload_n 3, 1) := dk_29 (dk_at dksX0_dish_0 6 rfl rfl)
theorem dX0_dish_7 : decode cX0_dish 7 = .ok (.iload 4, 2) := dk_21 4 (dk_at dksX0_dish_0 7 rfl rfl)
theorem dX0_dish_9 : decode cX0_dish 9 = .ok (.invokevirtual 31, 3) := dk_182 0 31 (dk_at dksX0_dish_0 9 rfl rfl)
theorem dX0_dish_12 : decode cX0_dish 12 = .ok (.i2l, 1) := dk_133 (dk_at dksX0_dish_0 12 rfl rfl)
theorem dX0_dish_13 : decode cX0_dish 13 = .ok (.lastore, 1) := dk_80 (dk_at dksX0_dish_0 13 rfl rfl)
theorem dX0_dish_14 : decode cX0_dish 14 = .ok (.goto 15, 3) := dk_167 0 15 (dk_at dksX0_dish_0 14 rfl rfl)
theorem dX0_dish_17 : decode cX0_dish 17 = .ok (.astore 6, 2) := dk_58 6 (dk_at dksX0_dish_0 17 rfl rfl)
theorem dX0_dish_19 : decode cX0_dish 19 = .ok (.iconst 1, 1) := dk_4 (dk_at dksX0_dish_0 19 rfl rfl)
theorem dX0_dish_20 : decode cX0_dish 20 = .ok (.ireturn, 1) := dk_172 (dk_at dksX0_dish_0 20 rfl rfl)
theorem dX0_dish_21 : decode cX0_dish 21 = .ok (.astore 6, 2) := dk_58 6 (dk_at dksX0_dish_0 21 rfl rfl)
theorem dX0_dish_23 : decode cX0_dish 23 = .ok (.iconst 2, 1) := dk_5 (dk_at dksX0_dish_0 23 rfl rfl)
theorem dX0_dish_24 : decode cX0_dish 24 = .ok (.ireturn, 1) := dk_172 (dk_at dksX0_dish_1 0 rfl rfl)
theorem dX0_dish_25 : decode cX0_dish 25 = .ok (.astore 6, 2) := dk_58 6 (dk_at dksX0_dish_1 1 rfl rfl)
theorem dX0_dish_27 : decode cX0_dish 27 = .ok (.iconst 3, 1) := dk_6 (dk_at dksX0_dish_1 3 rfl rfl)
theorem dX0_dish_28 : decode cX0_dish 28 = .ok (.ireturn, 1) := dk_172 (dk_at dksX0_dish_1 4 rfl rfl)
theorem dX0_dish_29 : decode cX0_dish 29 = .ok (.iconst 0, 1) := dk_3 (dk_at dksX0_dish_1 5 rfl rfl)
theorem dX0_dish_30 : decode cX0_dish 30 = .ok (.ireturn, 1) := dk_172 (dk_at dksX0_dish_1 6 rfl rfl)
abbrev cX0_courseOf : ByteArray := method_8_code
def dkwX0_courseOf_0 : List UInt8 := [45, 3, 42, 27, 28, 182, 0, 35, 133, 80, 167, 0, 11, 58, 4, 4, 172, 58, 4, 5, 172, 3, 172]
abbrev dktX0_courseOf_0 : List UInt8 := dkwX0_courseOf_0 ++ []
theorem dksX0_courseOf_0 : cX0_courseOf.data.toList.drop 0 = dktX0_courseOf_0 := by decide +kernel
theorem dX0_courseOf_0 : decode cX0_courseOf 0 = .ok (.aload_n 3, 1) := dk_45 (dk_at dksX0_courseOf_0 0 rfl rfl)
theorem dX0_courseOf_1 : decode cX0_courseOf 1 = .ok (.iconst 0, 1) := dk_3 (dk_at dksX0_courseOf_0 1 rfl rfl)
theorem dX0_courseOf_2 : decode cX0_courseOf 2 = .ok (.aload_n 0, 1) := dk_42 (dk_at dksX0_courseOf_0 2 rfl rfl)
theorem dX0_courseOf_3 : decode cX0_courseOf 3 = .ok (.iload_n 1, 1) := dk_27 (dk_at dksX0_courseOf_0 3 rfl rfl)
theorem dX0_courseOf_4 : decode cX0_courseOf 4 = .ok (.iload_n 2, 1) := dk_28 (dk_at dksX0_courseOf_0 4 rfl rfl)
theorem dX0_courseOf_5 : decode cX0_courseOf 5 = .ok (.invokevirtual 35, 3) := dk_182 0 35 (dk_at dksX0_courseOf_0 5 rfl rfl)
theorem dX0_courseOf_8 : decode cX0_courseOf 8 = .ok (.i2l, 1) := dk_133 (dk_at dksX0_courseOf_0 8 rfl rfl)
theorem dX0_courseOf_9 : decode cX0_courseOf 9 = .ok (.lastore, 1) := dk_80 (dk_at dksX0_courseOf_0 9 rfl rfl)
theorem dX0_courseOf_10 : decode cX0_courseOf 10 = .ok (.goto 11, 3) := dk_167 0 11 (dk_at dksX0_courseOf_0 10 rfl rfl)
theorem dX0_courseOf_13 : decode cX0_courseOf 13 = .ok (.astore 4, 2) := dk_58 4 (dk_at dksX0_courseOf_0 13 rfl rfl)
theorem dX0_courseOf_15 : decode cX0_courseOf 15 = .ok (.iconst 1, 1) := dk_4 (dk_at dksX0_courseOf_0 15 rfl rfl)
theorem dX0_courseOf_16 : decode cX0_courseOf 16 = .ok (.ireturn, 1) := dk_172 (dk_at dksX0_courseOf_0 16 rfl rfl)
theorem dX0_courseOf_17 : decode cX0_courseOf 17 = .ok (.astore 4, 2) := dk_58 4 (dk_at dksX0_courseOf_0 17 rfl rfl)
theorem dX0_courseOf_19 : decode cX0_courseOf 19 = .ok (.iconst 2, 1) := dk_5 (dk_at dksX0_courseOf_0 19 rfl rfl)
theorem dX0_courseOf_20 : decode cX0_courseOf 20 = .ok (.ireturn, 1) := dk_172 (dk_at dksX0_courseOf_0 20 rfl rfl)
theorem dX0_courseOf_21 : decode cX0_courseOf 21 = .ok (.iconst 0, 1) := dk_3 (dk_at dksX0_courseOf_0 21 rfl rfl)
theorem dX0_courseOf_22 : decode cX0_courseOf 22 = .ok (.ireturn, 1) := dk_172 (dk_at dksX0_courseOf_0 22 rfl rfl)
abbrev cX0_dishOf : ByteArray := method_9_code
def dkwX0_dishOf_1 : List UInt8 := [58, 5, 6, 172, 3, 172]
abbrev dktX0_dishOf_1 : List UInt8 := dkwX0_dishOf_1 ++ []
def dkwX0_dishOf_0 : List UInt8 := [25, 4, 3, 42, 27, 28, 29, 182, 0, 38, 133, 80, 167, 0, 15, 58, 5, 4, 172, 58, 5, 5, 172]
abbrev dktX0_dishOf_0 : List UInt8 := dkwX0_dishOf_0 ++ dktX0_dishOf_1
theorem dksX0_dishOf_0 : cX0_dishOf.data.toList.drop 0 = dktX0_dishOf_0 := by decide +kernel
theorem dksX0_dishOf_1 : cX0_dishOf.data.toList.drop 23 = dktX0_dishOf_1 := dk_seg dksX0_dishOf_0 23 rfl rfl
theorem dX0_dishOf_0 : decode cX0_dishOf 0 = .ok (.aload 4, 2) := dk_25 4 (dk_at dksX0_dishOf_0 0 rfl rfl)
theorem dX0_dishOf_2 : decode cX0_dishOf 2 = .ok (.iconst 0, 1) := dk_3 (dk_at dksX0_dishOf_0 2 rfl rfl)
theorem dX0_dishOf_3 : decode cX0_dishOf 3 = .ok (.aload_n 0, 1) := dk_42 (dk_at dksX0_dishOf_0 3 rfl rfl)
theorem dX0_dishOf_4 : decode cX0_dishOf 4 = .ok (.iload_n 1, 1) := dk_27 (dk_at dksX0_dishOf_0 4 rfl rfl)
theorem dX0_dishOf_5 : decode cX0_dishOf 5 = .ok (.iload_n 2, 1) := dk_28 (dk_at dksX0_dishOf_0 5 rfl rfl)
theorem dX0_dishOf_6 : decode cX0_dishOf 6 = .ok (.iload_n 3, 1) := dk_29 (dk_at dksX0_dishOf_0 6 rfl rfl)
theorem dX0_dishOf_7 : decode cX0_dishOf 7 = .ok (.invokevirtual 38, 3) := dk_182 0 38 (dk_at dksX0_dishOf_0 7 rfl rfl)
theorem dX0_dishOf_10 : decode cX0_dishOf 10 = .ok (.i2l, 1) := dk_133 (dk_at dksX0_dishOf_0 10 rfl rfl)
theorem dX0_dishOf_11 : decode cX0_dishOf 11 = .ok (.lastore, 1) := dk_80 (dk_at dksX0_dishOf_0 11 rfl rfl)
theorem dX0_dishOf_12 : decode cX0_dishOf 12 = .ok (.goto 15, 3) := dk_167 0 15 (dk_at dksX0_dishOf_0 12 rfl rfl)
theorem dX0_dishOf_15 : decode cX0_dishOf 15 = .ok (.astore 5, 2) := dk_58 5 (dk_at dksX0_dishOf_0 15 rfl rfl)
theorem dX0_dishOf_17 : decode cX0_dishOf 17 = .ok (.iconst 1, 1) := dk_4 (dk_at dksX0_dishOf_0 17 rfl rfl)
theorem dX0_dishOf_18 : decode cX0_dishOf 18 = .ok (.ireturn, 1) := dk_172 (dk_at dksX0_dishOf_0 18 rfl rfl)
theorem dX0_dishOf_19 : decode cX0_dishOf 19 = .ok (.astore 5, 2) := dk_58 5 (dk_at dksX0_dishOf_0 19 rfl rfl)
theorem dX0_dishOf_21 : decode cX0_dishOf 21 = .ok (.iconst 2, 1) := dk_5 (dk_at dksX0_dishOf_0 21 rfl rfl)
theorem dX0_dishOf_22 : decode cX0_dishOf 22 = .ok (.ireturn, 1) := dk_172 (dk_at dksX0_dishOf_0 22 rfl rfl)
theorem dX0_dishOf_23 : decode cX0_dishOf 23 = .ok (.astore 5, 2) := dk_58 5 (dk_at dksX0_dishOf_1 0 rfl rfl)
theorem dX0_dishOf_25 : decode cX0_dishOf 25 = .ok (.iconst 3, 1) := dk_6 (dk_at dksX0_dishOf_1 2 rfl rfl)
theorem dX0_dishOf_26 : decode cX0_dishOf 26 = .ok (.ireturn, 1) := dk_172 (dk_at dksX0_dishOf_1 3 rfl rfl)
theorem dX0_dishOf_27 : decode cX0_dishOf 27 = .ok (.iconst 0, 1) := dk_3 (dk_at dksX0_dishOf_1 4 rfl rfl)
theorem dX0_dishOf_28 : decode cX0_dishOf 28 = .ok (.ireturn, 1) := dk_172 (dk_at dksX0_dishOf_1 5 rfl rfl)
abbrev cX0_has : ByteArray := method_10_code
def dkwX0_has_1 : List UInt8 := [172]
abbrev dktX0_has_1 : List UInt8 := dkwX0_has_1 ++ []
def dkwX0_has_0 : List UInt8 := [25, 4, 3, 42, 27, 28, 29, 182, 0, 43, 133, 80, 167, 0, 11, 58, 5, 4, 172, 58, 5, 5, 172, 3]
abbrev dktX0_has_0 : List UInt8 := dkwX0_has_0 ++ dktX0_has_1
theorem dksX0_has_0 : cX0_has.data.toList.drop 0 = dktX0_has_0 := by decide +kernel
theorem dksX0_has_1 : cX0_has.data.toList.drop 24 = dktX0_has_1 := dk_seg dksX0_has_0 24 rfl rfl
theorem dX0_has_0 : decode cX0_has 0 = .ok (.aload 4, 2) := dk_25 4 (dk_at dksX0_has_0 0 rfl rfl)
theorem dX0_has_2 : decode cX0_has 2 = .ok (.iconst 0, 1) := dk_3 (dk_at dksX0_has_0 2 rfl rfl)
theorem dX0_has_3 : decode cX0_has 3 = .ok (.aload_n 0, 1) := dk_42 (dk_at dksX0_has_0 3 rfl rfl)
theorem dX0_has_4 : decode cX0_has 4 = .ok (.iload_n 1, 1) := dk_27 (dk_at dksX0_has_0 4 rfl rfl)
theorem dX0_has_5 : decode cX0_has 5 = .ok (.iload_n 2, 1) := dk_28 (dk_at dksX0_has_0 5 rfl rfl)
theorem dX0_has_6 : decode cX0_has 6 = .ok (.iload_n 3, 1) := dk_29 (dk_at dksX0_has_0 6 rfl rfl)
theorem dX0_has_7 : decode cX0_has 7 = .ok (.invokevirtual 43, 3) := dk_182 0 43 (dk_at dksX0_has_0 7 rfl rfl)
theorem dX0_has_10 : decode cX0_has 10 = .ok (.i2l, 1) := dk_133 (dk_at dksX0_has_0 10 rfl rfl)
theorem dX0_has_11 : decode cX0_has 11 = .ok (.lastore, 1) := dk_80 (dk_at dksX0_has_0 11 rfl rfl)
theorem dX0_has_12 : decode cX0_has 12 = .ok (.goto 11, 3) := dk_167 0 11 (dk_at dksX0_has_0 12 rfl rfl)
theorem dX0_has_15 : decode cX0_has 15 = .ok (.astore 5, 2) := dk_58 5 (dk_at dksX0_has_0 15 rfl rfl)
theorem dX0_has_17 : decode cX0_has 17 = .ok (.iconst 1, 1) := dk_4 (dk_at dksX0_has_0 17 rfl rfl)
theorem dX0_has_18 : decode cX0_has 18 = .ok (.ireturn, 1) := dk_172 (dk_at dksX0_has_0 18 rfl rfl)
theorem dX0_has_19 : decode cX0_has 19 = .ok (.astore 5, 2) := dk_58 5 (dk_at dksX0_has_0 19 rfl rfl)
theorem dX0_has_21 : decode cX0_has 21 = .ok (.iconst 2, 1) := dk_5 (dk_at dksX0_has_0 21 rfl rfl)
theorem dX0_has_22 : decode cX0_has 22 = .ok (.ireturn, 1) := dk_172 (dk_at dksX0_has_0 22 rfl rfl)
theorem dX0_has_23 : decode cX0_has 23 = .ok (.iconst 0, 1) := dk_3 (dk_at dksX0_has_0 23 rfl rfl)
theorem dX0_has_24 : decode cX0_has 24 = .ok (.ireturn, 1) := dk_172 (dk_at dksX0_has_1 0 rfl rfl)
abbrev cX0_freeAgain : ByteArray := method_11_code
def dkwX0_freeAgain_0 : List UInt8 := [45, 3, 42, 27, 28, 182, 0, 47, 133, 80, 167, 0, 11, 58, 4, 4, 172, 58, 4, 5, 172, 3, 172]
abbrev dktX0_freeAgain_0 : List UInt8 := dkwX0_freeAgain_0 ++ []
theorem dksX0_freeAgain_0 : cX0_freeAgain.data.toList.drop 0 = dktX0_freeAgain_0 := by decide +kernel
theorem dX0_freeAgain_0 : decode cX0_freeAgain 0 = .ok (.aload_n 3, 1) := dk_45 (dk_at dksX0_freeAgain_0 0 rfl rfl)
theorem dX0_freeAgain_1 : decode cX0_freeAgain 1 = .ok (.iconst 0, 1) := dk_3 (dk_at dksX0_freeAgain_0 1 rfl rfl)
theorem dX0_freeAgain_2 : decode cX0_freeAgain 2 = .ok (.aload_n 0, 1) := dk_42 (dk_at dksX0_freeAgain_0 2 rfl rfl)
theorem dX0_freeAgain_3 : decode cX0_freeAgain 3 = .ok (.iload_n 1, 1) := dk_27 (dk_at dksX0_freeAgain_0 3 rfl rfl)
theorem dX0_freeAgain_4 : decode cX0_freeAgain 4 = .ok (.iload_n 2, 1) := dk_28 (dk_at dksX0_freeAgain_0 4 rfl rfl)
theorem dX0_freeAgain_5 : decode cX0_freeAgain 5 = .ok (.invokevirtual 47, 3) := dk_182 0 47 (dk_at dksX0_freeAgain_0 5 rfl rfl)
theorem dX0_freeAgain_8 : decode cX0_freeAgain 8 = .ok (.i2l, 1) := dk_133 (dk_at dksX0_freeAgain_0 8 rfl rfl)
theorem dX0_freeAgain_9 : decode cX0_freeAgain 9 = .ok (.lastore, 1) := dk_80 (dk_at dksX0_freeAgain_0 9 rfl rfl)
theorem dX0_freeAgain_10 : decode cX0_freeAgain 10 = .ok (.goto 11, 3) := dk_167 0 11 (dk_at dksX0_freeAgain_0 10 rfl rfl)
theorem dX0_freeAgain_13 : decode cX0_freeAgain 13 = .ok (.astore 4, 2) := dk_58 4 (dk_at dksX0_freeAgain_0 13 rfl rfl)
theorem dX0_freeAgain_15 : decode cX0_freeAgain 15 = .ok (.iconst 1, 1) := dk_4 (dk_at dksX0_freeAgain_0 15 rfl rfl)
theorem dX0_freeAgain_16 : decode cX0_freeAgain 16 = .ok (.ireturn, 1) := dk_172 (dk_at dksX0_freeAgain_0 16 rfl rfl)
theorem dX0_freeAgain_17 : decode cX0_freeAgain 17 = .ok (.astore 4, 2) := dk_58 4 (dk_at dksX0_freeAgain_0 17 rfl rfl)
theorem dX0_freeAgain_19 : decode cX0_freeAgain 19 = .ok (.iconst 2, 1) := dk_5 (dk_at dksX0_freeAgain_0 19 rfl rfl)
theorem dX0_freeAgain_20 : decode cX0_freeAgain 20 = .ok (.ireturn, 1) := dk_172 (dk_at dksX0_freeAgain_0 20 rfl rfl)
theorem dX0_freeAgain_21 : decode cX0_freeAgain 21 = .ok (.iconst 0, 1) := dk_3 (dk_at dksX0_freeAgain_0 21 rfl rfl)
theorem dX0_freeAgain_22 : decode cX0_freeAgain 22 = .ok (.ireturn, 1) := dk_172 (dk_at dksX0_freeAgain_0 22 rfl rfl)
abbrev cX0_ask : ByteArray := method_12_code
def dkwX0_ask_0 : List UInt8 := [44, 3, 42, 27, 182, 0, 50, 133, 80, 167, 0, 9, 78, 4, 172, 78, 5, 172, 3, 172]
abbrev dktX0_ask_0 : List UInt8 := dkwX0_ask_0 ++ []
theorem dksX0_ask_0 : cX0_ask.data.toList.drop 0 = dktX0_ask_0 := by decide +kernel
theorem dX0_ask_0 : decode cX0_ask 0 = .ok (.aload_n 2, 1) := dk_44 (dk_at dksX0_ask_0 0 rfl rfl)
theorem dX0_ask_1 : decode cX0_ask 1 = .ok (.iconst 0, 1) := dk_3 (dk_at dksX0_ask_0 1 rfl rfl)
theorem dX0_ask_2 : decode cX0_ask 2 = .ok (.aload_n 0, 1) := dk_42 (dk_at dksX0_ask_0 2 rfl rfl)
theorem dX0_ask_3 : decode cX0_ask 3 = .ok (.iload_n 1, 1) := dk_27 (dk_at dksX0_ask_0 3 rfl rfl)
theorem dX0_ask_4 : decode cX0_ask 4 = .ok (.invokevirtual 50, 3) := dk_182 0 50 (dk_at dksX0_ask_0 4 rfl rfl)
theorem dX0_ask_7 : decode cX0_ask 7 = .ok (.i2l, 1) := dk_133 (dk_at dksX0_ask_0 7 rfl rfl)
theorem dX0_ask_8 : decode cX0_ask 8 = .ok (.lastore, 1) := dk_80 (dk_at dksX0_ask_0 8 rfl rfl)
theorem dX0_ask_9 : decode cX0_ask 9 = .ok (.goto 9, 3) := dk_167 0 9 (dk_at dksX0_ask_0 9 rfl rfl)
theorem dX0_ask_12 : decode cX0_ask 12 = .ok (.astore_n 3, 1) := dk_78 (dk_at dksX0_ask_0 12 rfl rfl)
theorem dX0_ask_13 : decode cX0_ask 13 = .ok (.iconst 1, 1) := dk_4 (dk_at dksX0_ask_0 13 rfl rfl)
theorem dX0_ask_14 : decode cX0_ask 14 = .ok (.ireturn, 1) := dk_172 (dk_at dksX0_ask_0 14 rfl rfl)
theorem dX0_ask_15 : decode cX0_ask 15 = .ok (.astore_n 3, 1) := dk_78 (dk_at dksX0_ask_0 15 rfl rfl)
theorem dX0_ask_16 : decode cX0_ask 16 = .ok (.iconst 2, 1) := dk_5 (dk_at dksX0_ask_0 16 rfl rfl)
theorem dX0_ask_17 : decode cX0_ask 17 = .ok (.ireturn, 1) := dk_172 (dk_at dksX0_ask_0 17 rfl rfl)
theorem dX0_ask_18 : decode cX0_ask 18 = .ok (.iconst 0, 1) := dk_3 (dk_at dksX0_ask_0 18 rfl rfl)
theorem dX0_ask_19 : decode cX0_ask 19 = .ok (.ireturn, 1) := dk_172 (dk_at dksX0_ask_0 19 rfl rfl)
abbrev cX0_cancel : ByteArray := method_13_code
def dkwX0_cancel_0 : List UInt8 := [44, 3, 42, 27, 182, 0, 53, 133, 80, 167, 0, 9, 78, 4, 172, 78, 5, 172, 3, 172]
abbrev dktX0_cancel_0 : List UInt8 := dkwX0_cancel_0 ++ []
theorem dksX0_cancel_0 : cX0_cancel.data.toList.drop 0 = dktX0_cancel_0 := by decide +kernel
theorem dX0_cancel_0 : decode cX0_cancel 0 = .ok (.aload_n 2, 1) := dk_44 (dk_at dksX0_cancel_0 0 rfl rfl)
theorem dX0_cancel_1 : decode cX0_cancel 1 = .ok (.iconst 0, 1) := dk_3 (dk_at dksX0_cancel_0 1 rfl rfl)
theorem dX0_cancel_2 : decode cX0_cancel 2 = .ok (.aload_n 0, 1) := dk_42 (dk_at dksX0_cancel_0 2 rfl rfl)
theorem dX0_cancel_3 : decode cX0_cancel 3 = .ok (.iload_n 1, 1) := dk_27 (dk_at dksX0_cancel_0 3 rfl rfl)
theorem dX0_cancel_4 : decode cX0_cancel 4 = .ok (.invokevirtual 53, 3) := dk_182 0 53 (dk_at dksX0_cancel_0 4 rfl rfl)
theorem dX0_cancel_7 : decode cX0_cancel 7 = .ok (.i2l, 1) := dk_133 (dk_at dksX0_cancel_0 7 rfl rfl)
theorem dX0_cancel_8 : decode cX0_cancel 8 = .ok (.lastore, 1) := dk_80 (dk_at dksX0_cancel_0 8 rfl rfl)
theorem dX0_cancel_9 : decode cX0_cancel 9 = .ok (.goto 9, 3) := dk_167 0 9 (dk_at dksX0_cancel_0 9 rfl rfl)
theorem dX0_cancel_12 : decode cX0_cancel 12 = .ok (.astore_n 3, 1) := dk_78 (dk_at dksX0_cancel_0 12 rfl rfl)
theorem dX0_cancel_13 : decode cX0_cancel 13 = .ok (.iconst 1, 1) := dk_4 (dk_at dksX0_cancel_0 13 rfl rfl)
theorem dX0_cancel_14 : decode cX0_cancel 14 = .ok (.ireturn, 1) := dk_172 (dk_at dksX0_cancel_0 14 rfl rfl)
theorem dX0_cancel_15 : decode cX0_cancel 15 = .ok (.astore_n 3, 1) := dk_78 (dk_at dksX0_cancel_0 15 rfl rfl)
theorem dX0_cancel_16 : decode cX0_cancel 16 = .ok (.iconst 2, 1) := dk_5 (dk_at dksX0_cancel_0 16 rfl rfl)
theorem dX0_cancel_17 : decode cX0_cancel 17 = .ok (.ireturn, 1) := dk_172 (dk_at dksX0_cancel_0 17 rfl rfl)
theorem dX0_cancel_18 : decode cX0_cancel 18 = .ok (.iconst 0, 1) := dk_3 (dk_at dksX0_cancel_0 18 rfl rfl)
theorem dX0_cancel_19 : decode cX0_cancel 19 = .ok (.ireturn, 1) := dk_172 (dk_at dksX0_cancel_0 19 rfl rfl)
abbrev cX0_faint : ByteArray := method_14_code
def dkwX0_faint_0 : List UInt8 := [44, 3, 42, 27, 182, 0, 56, 133, 80, 167, 0, 9, 78, 4, 172, 78, 5, 172, 3, 172]
abbrev dktX0_faint_0 : List UInt8 := dkwX0_faint_0 ++ []
theorem dksX0_faint_0 : cX0_faint.data.toList.drop 0 = dktX0_faint_0 := by decide +kernel
theorem dX0_faint_0 : decode cX0_faint 0 = .ok (.aload_n 2, 1) := dk_44 (dk_at dksX0_faint_0 0 rfl rfl)
theorem dX0_faint_1 : decode cX0_faint 1 = .ok (.iconst 0, 1) := dk_3 (dk_at dksX0_faint_0 1 rfl rfl)
theorem dX0_faint_2 : decode cX0_faint 2 = .ok (.aload_n 0, 1) := dk_42 (dk_at dksX0_faint_0 2 rfl rfl)
theorem dX0_faint_3 : decode cX0_faint 3 = .ok (.iload_n 1, 1) := dk_27 (dk_at dksX0_faint_0 3 rfl rfl)
theorem dX0_faint_4 : decode cX0_faint 4 = .ok (.invokevirtual 56, 3) := dk_182 0 56 (dk_at dksX0_faint_0 4 rfl rfl)
theorem dX0_faint_7 : decode cX0_faint 7 = .ok (.i2l, 1) := dk_133 (dk_at dksX0_faint_0 7 rfl rfl)
theorem dX0_faint_8 : decode cX0_faint 8 = .ok (.lastore, 1) := dk_80 (dk_at dksX0_faint_0 8 rfl rfl)
theorem dX0_faint_9 : decode cX0_faint 9 = .ok (.goto 9, 3) := dk_167 0 9 (dk_at dksX0_faint_0 9 rfl rfl)
theorem dX0_faint_12 : decode cX0_faint 12 = .ok (.astore_n 3, 1) := dk_78 (dk_at dksX0_faint_0 12 rfl rfl)
theorem dX0_faint_13 : decode cX0_faint 13 = .ok (.iconst 1, 1) := dk_4 (dk_at dksX0_faint_0 13 rfl rfl)
theorem dX0_faint_14 : decode cX0_faint 14 = .ok (.ireturn, 1) := dk_172 (dk_at dksX0_faint_0 14 rfl rfl)
theorem dX0_faint_15 : decode cX0_faint 15 = .ok (.astore_n 3, 1) := dk_78 (dk_at dksX0_faint_0 15 rfl rfl)
theorem dX0_faint_16 : decode cX0_faint 16 = .ok (.iconst 2, 1) := dk_5 (dk_at dksX0_faint_0 16 rfl rfl)
theorem dX0_faint_17 : decode cX0_faint 17 = .ok (.ireturn, 1) := dk_172 (dk_at dksX0_faint_0 17 rfl rfl)
theorem dX0_faint_18 : decode cX0_faint 18 = .ok (.iconst 0, 1) := dk_3 (dk_at dksX0_faint_0 18 rfl rfl)
theorem dX0_faint_19 : decode cX0_faint 19 = .ok (.ireturn, 1) := dk_172 (dk_at dksX0_faint_0 19 rfl rfl)
abbrev cX0_wake : ByteArray := method_15_code
def dkwX0_wake_0 : List UInt8 := [44, 3, 42, 27, 182, 0, 59, 133, 80, 167, 0, 9, 78, 4, 172, 78, 5, 172, 3, 172]
abbrev dktX0_wake_0 : List UInt8 := dkwX0_wake_0 ++ []
theorem dksX0_wake_0 : cX0_wake.data.toList.drop 0 = dktX0_wake_0 := by decide +kernel
theorem dX0_wake_0 : decode cX0_wake 0 = .ok (.aload_n 2, 1) := dk_44 (dk_at dksX0_wake_0 0 rfl rfl)
theorem dX0_wake_1 : decode cX0_wake 1 = .ok (.iconst 0, 1) := dk_3 (dk_at dksX0_wake_0 1 rfl rfl)
theorem dX0_wake_2 : decode cX0_wake 2 = .ok (.aload_n 0, 1) := dk_42 (dk_at dksX0_wake_0 2 rfl rfl)
theorem dX0_wake_3 : decode cX0_wake 3 = .ok (.iload_n 1, 1) := dk_27 (dk_at dksX0_wake_0 3 rfl rfl)
theorem dX0_wake_4 : decode cX0_wake 4 = .ok (.invokevirtual 59, 3) := dk_182 0 59 (dk_at dksX0_wake_0 4 rfl rfl)
theorem dX0_wake_7 : decode cX0_wake 7 = .ok (.i2l, 1) := dk_133 (dk_at dksX0_wake_0 7 rfl rfl)
theorem dX0_wake_8 : decode cX0_wake 8 = .ok (.lastore, 1) := dk_80 (dk_at dksX0_wake_0 8 rfl rfl)
theorem dX0_wake_9 : decode cX0_wake 9 = .ok (.goto 9, 3) := dk_167 0 9 (dk_at dksX0_wake_0 9 rfl rfl)
theorem dX0_wake_12 : decode cX0_wake 12 = .ok (.astore_n 3, 1) := dk_78 (dk_at dksX0_wake_0 12 rfl rfl)
theorem dX0_wake_13 : decode cX0_wake 13 = .ok (.iconst 1, 1) := dk_4 (dk_at dksX0_wake_0 13 rfl rfl)
theorem dX0_wake_14 : decode cX0_wake 14 = .ok (.ireturn, 1) := dk_172 (dk_at dksX0_wake_0 14 rfl rfl)
theorem dX0_wake_15 : decode cX0_wake 15 = .ok (.astore_n 3, 1) := dk_78 (dk_at dksX0_wake_0 15 rfl rfl)
theorem dX0_wake_16 : decode cX0_wake 16 = .ok (.iconst 2, 1) := dk_5 (dk_at dksX0_wake_0 16 rfl rfl)
theorem dX0_wake_17 : decode cX0_wake 17 = .ok (.ireturn, 1) := dk_172 (dk_at dksX0_wake_0 17 rfl rfl)
theorem dX0_wake_18 : decode cX0_wake 18 = .ok (.iconst 0, 1) := dk_3 (dk_at dksX0_wake_0 18 rfl rfl)
theorem dX0_wake_19 : decode cX0_wake 19 = .ok (.ireturn, 1) := dk_172 (dk_at dksX0_wake_0 19 rfl rfl)
abbrev cX0_learn : ByteArray := method_16_code
def dkwX0_learn_1 : List UInt8 := [58, 5, 6, 172, 3, 172]
abbrev dktX0_learn_1 : List UInt8 := dkwX0_learn_1 ++ []
def dkwX0_learn_0 : List UInt8 := [25, 4, 3, 42, 27, 28, 29, 182, 0, 62, 133, 80, 167, 0, 15, 58, 5, 4, 172, 58, 5, 5, 172]
abbrev dktX0_learn_0 : List UInt8 := dkwX0_learn_0 ++ dktX0_learn_1
theorem dksX0_learn_0 : cX0_learn.data.toList.drop 0 = dktX0_learn_0 := by decide +kernel
theorem dksX0_learn_1 : cX0_learn.data.toList.drop 23 = dktX0_learn_1 := dk_seg dksX0_learn_0 23 rfl rfl
theorem dX0_learn_0 : decode cX0_learn 0 = .ok (.aload 4, 2) := dk_25 4 (dk_at dksX0_learn_0 0 rfl rfl)
theorem dX0_learn_2 : decode cX0_learn 2 = .ok (.iconst 0, 1) := dk_3 (dk_at dksX0_learn_0 2 rfl rfl)
theorem dX0_learn_3 : decode cX0_learn 3 = .ok (.aload_n 0, 1) := dk_42 (dk_at dksX0_learn_0 3 rfl rfl)
theorem dX0_learn_4 : decode cX0_learn 4 = .ok (.iload_n 1, 1) := dk_27 (dk_at dksX0_learn_0 4 rfl rfl)
theorem dX0_learn_5 : decode cX0_learn 5 = .ok (.iload_n 2, 1) := dk_28 (dk_at dksX0_learn_0 5 rfl rfl)
theorem dX0_learn_6 : decode cX0_learn 6 = .ok (.iload_n 3, 1) := dk_29 (dk_at dksX0_learn_0 6 rfl rfl)
theorem dX0_learn_7 : decode cX0_learn 7 = .ok (.invokevirtual 62, 3) := dk_182 0 62 (dk_at dksX0_learn_0 7 rfl rfl)
theorem dX0_learn_10 : decode cX0_learn 10 = .ok (.i2l, 1) := dk_133 (dk_at dksX0_learn_0 10 rfl rfl)
theorem dX0_learn_11 : decode cX0_learn 11 = .ok (.lastore, 1) := dk_80 (dk_at dksX0_learn_0 11 rfl rfl)
theorem dX0_learn_12 : decode cX0_learn 12 = .ok (.goto 15, 3) := dk_167 0 15 (dk_at dksX0_learn_0 12 rfl rfl)
theorem dX0_learn_15 : decode cX0_learn 15 = .ok (.astore 5, 2) := dk_58 5 (dk_at dksX0_learn_0 15 rfl rfl)
theorem dX0_learn_17 : decode cX0_learn 17 = .ok (.iconst 1, 1) := dk_4 (dk_at dksX0_learn_0 17 rfl rfl)
theorem dX0_learn_18 : decode cX0_learn 18 = .ok (.ireturn, 1) := dk_172 (dk_at dksX0_learn_0 18 rfl rfl)
theorem dX0_learn_19 : decode cX0_learn 19 = .ok (.astore 5, 2) := dk_58 5 (dk_at dksX0_learn_0 19 rfl rfl)
theorem dX0_learn_21 : decode cX0_learn 21 = .ok (.iconst 2, 1) := dk_5 (dk_at dksX0_learn_0 21 rfl rfl)
theorem dX0_learn_22 : decode cX0_learn 22 = .ok (.ireturn, 1) := dk_172 (dk_at dksX0_learn_0 22 rfl rfl)
theorem dX0_learn_23 : decode cX0_learn 23 = .ok (.astore 5, 2) := dk_58 5 (dk_at dksX0_learn_1 0 rfl rfl)
theorem dX0_learn_25 : decode cX0_learn 25 = .ok (.iconst 3, 1) := dk_6 (dk_at dksX0_learn_1 2 rfl rfl)
theorem dX0_learn_26 : decode cX0_learn 26 = .ok (.ireturn, 1) := dk_172 (dk_at dksX0_learn_1 3 rfl rfl)
theorem dX0_learn_27 : decode cX0_learn 27 = .ok (.iconst 0, 1) := dk_3 (dk_at dksX0_learn_1 4 rfl rfl)
theorem dX0_learn_28 : decode cX0_learn 28 = .ok (.ireturn, 1) := dk_172 (dk_at dksX0_learn_1 5 rfl rfl)
abbrev cX0_pass : ByteArray := method_17_code
def dkwX0_pass_0 : List UInt8 := [44, 3, 42, 27, 182, 0, 65, 133, 80, 167, 0, 6, 78, 4, 172, 3, 172]
abbrev dktX0_pass_0 : List UInt8 := dkwX0_pass_0 ++ []
theorem dksX0_pass_0 : cX0_pass.data.toList.drop 0 = dktX0_pass_0 := by decide +kernel
theorem dX0_pass_0 : decode cX0_pass 0 = .ok (.aload_n 2, 1) := dk_44 (dk_at dksX0_pass_0 0 rfl rfl)
theorem dX0_pass_1 : decode cX0_pass 1 = .ok (.iconst 0, 1) := dk_3 (dk_at dksX0_pass_0 1 rfl rfl)
theorem dX0_pass_2 : decode cX0_pass 2 = .ok (.aload_n 0, 1) := dk_42 (dk_at dksX0_pass_0 2 rfl rfl)
theorem dX0_pass_3 : decode cX0_pass 3 = .ok (.iload_n 1, 1) := dk_27 (dk_at dksX0_pass_0 3 rfl rfl)
theorem dX0_pass_4 : decode cX0_pass 4 = .ok (.invokevirtual 65, 3) := dk_182 0 65 (dk_at dksX0_pass_0 4 rfl rfl)
theorem dX0_pass_7 : decode cX0_pass 7 = .ok (.i2l, 1) := dk_133 (dk_at dksX0_pass_0 7 rfl rfl)
theorem dX0_pass_8 : decode cX0_pass 8 = .ok (.lastore, 1) := dk_80 (dk_at dksX0_pass_0 8 rfl rfl)
theorem dX0_pass_9 : decode cX0_pass 9 = .ok (.goto 6, 3) := dk_167 0 6 (dk_at dksX0_pass_0 9 rfl rfl)
theorem dX0_pass_12 : decode cX0_pass 12 = .ok (.astore_n 3, 1) := dk_78 (dk_at dksX0_pass_0 12 rfl rfl)
theorem dX0_pass_13 : decode cX0_pass 13 = .ok (.iconst 1, 1) := dk_4 (dk_at dksX0_pass_0 13 rfl rfl)
theorem dX0_pass_14 : decode cX0_pass 14 = .ok (.ireturn, 1) := dk_172 (dk_at dksX0_pass_0 14 rfl rfl)
theorem dX0_pass_15 : decode cX0_pass 15 = .ok (.iconst 0, 1) := dk_3 (dk_at dksX0_pass_0 15 rfl rfl)
theorem dX0_pass_16 : decode cX0_pass 16 = .ok (.ireturn, 1) := dk_172 (dk_at dksX0_pass_0 16 rfl rfl)
abbrev cX0_courseIn : ByteArray := method_18_code
def dkwX0_courseIn_0 : List UInt8 := [45, 3, 42, 27, 28, 182, 0, 68, 133, 80, 167, 0, 11, 58, 4, 4, 172, 58, 4, 5, 172, 3, 172]
abbrev dktX0_courseIn_0 : List UInt8 := dkwX0_courseIn_0 ++ []
theorem dksX0_courseIn_0 : cX0_courseIn.data.toList.drop 0 = dktX0_courseIn_0 := by decide +kernel
theorem dX0_courseIn_0 : decode cX0_courseIn 0 = .ok (.aload_n 3, 1) := dk_45 (dk_at dksX0_courseIn_0 0 rfl rfl)
theorem dX0_courseIn_1 : decode cX0_courseIn 1 = .ok (.iconst 0, 1) := dk_3 (dk_at dksX0_courseIn_0 1 rfl rfl)
theorem dX0_courseIn_2 : decode cX0_courseIn 2 = .ok (.aload_n 0, 1) := dk_42 (dk_at dksX0_courseIn_0 2 rfl rfl)
theorem dX0_courseIn_3 : decode cX0_courseIn 3 = .ok (.iload_n 1, 1) := dk_27 (dk_at dksX0_courseIn_0 3 rfl rfl)
theorem dX0_courseIn_4 : decode cX0_courseIn 4 = .ok (.iload_n 2, 1) := dk_28 (dk_at dksX0_courseIn_0 4 rfl rfl)
theorem dX0_courseIn_5 : decode cX0_courseIn 5 = .ok (.invokevirtual 68, 3) := dk_182 0 68 (dk_at dksX0_courseIn_0 5 rfl rfl)
theorem dX0_courseIn_8 : decode cX0_courseIn 8 = .ok (.i2l, 1) := dk_133 (dk_at dksX0_courseIn_0 8 rfl rfl)
theorem dX0_courseIn_9 : decode cX0_courseIn 9 = .ok (.lastore, 1) := dk_80 (dk_at dksX0_courseIn_0 9 rfl rfl)
theorem dX0_courseIn_10 : decode cX0_courseIn 10 = .ok (.goto 11, 3) := dk_167 0 11 (dk_at dksX0_courseIn_0 10 rfl rfl)
theorem dX0_courseIn_13 : decode cX0_courseIn 13 = .ok (.astore 4, 2) := dk_58 4 (dk_at dksX0_courseIn_0 13 rfl rfl)
theorem dX0_courseIn_15 : decode cX0_courseIn 15 = .ok (.iconst 1, 1) := dk_4 (dk_at dksX0_courseIn_0 15 rfl rfl)
theorem dX0_courseIn_16 : decode cX0_courseIn 16 = .ok (.ireturn, 1) := dk_172 (dk_at dksX0_courseIn_0 16 rfl rfl)
theorem dX0_courseIn_17 : decode cX0_courseIn 17 = .ok (.astore 4, 2) := dk_58 4 (dk_at dksX0_courseIn_0 17 rfl rfl)
theorem dX0_courseIn_19 : decode cX0_courseIn 19 = .ok (.iconst 2, 1) := dk_5 (dk_at dksX0_courseIn_0 19 rfl rfl)
theorem dX0_courseIn_20 : decode cX0_courseIn 20 = .ok (.ireturn, 1) := dk_172 (dk_at dksX0_courseIn_0 20 rfl rfl)
theorem dX0_courseIn_21 : decode cX0_courseIn 21 = .ok (.iconst 0, 1) := dk_3 (dk_at dksX0_courseIn_0 21 rfl rfl)
theorem dX0_courseIn_22 : decode cX0_courseIn 22 = .ok (.ireturn, 1) := dk_172 (dk_at dksX0_courseIn_0 22 rfl rfl)
abbrev cX0_clearIn : ByteArray := method_19_code
def dkwX0_clearIn_0 : List UInt8 := [44, 3, 42, 27, 182, 0, 71, 133, 80, 167, 0, 9, 78, 4, 172, 78, 5, 172, 3, 172]
abbrev dktX0_clearIn_0 : List UInt8 := dkwX0_clearIn_0 ++ []
theorem dksX0_clearIn_0 : cX0_clearIn.data.toList.drop 0 = dktX0_clearIn_0 := by decide +kernel
theorem dX0_clearIn_0 : decode cX0_clearIn 0 = .ok (.aload_n 2, 1) := dk_44 (dk_at dksX0_clearIn_0 0 rfl rfl)
theorem dX0_clearIn_1 : decode cX0_clearIn 1 = .ok (.iconst 0, 1) := dk_3 (dk_at dksX0_clearIn_0 1 rfl rfl)
theorem dX0_clearIn_2 : decode cX0_clearIn 2 = .ok (.aload_n 0, 1) := dk_42 (dk_at dksX0_clearIn_0 2 rfl rfl)
theorem dX0_clearIn_3 : decode cX0_clearIn 3 = .ok (.iload_n 1, 1) := dk_27 (dk_at dksX0_clearIn_0 3 rfl rfl)
theorem dX0_clearIn_4 : decode cX0_clearIn 4 = .ok (.invokevirtual 71, 3) := dk_182 0 71 (dk_at dksX0_clearIn_0 4 rfl rfl)
theorem dX0_clearIn_7 : decode cX0_clearIn 7 = .ok (.i2l, 1) := dk_133 (dk_at dksX0_clearIn_0 7 rfl rfl)
theorem dX0_clearIn_8 : decode cX0_clearIn 8 = .ok (.lastore, 1) := dk_80 (dk_at dksX0_clearIn_0 8 rfl rfl)
theorem dX0_clearIn_9 : decode cX0_clearIn 9 = .ok (.goto 9, 3) := dk_167 0 9 (dk_at dksX0_clearIn_0 9 rfl rfl)
theorem dX0_clearIn_12 : decode cX0_clearIn 12 = .ok (.astore_n 3, 1) := dk_78 (dk_at dksX0_clearIn_0 12 rfl rfl)
theorem dX0_clearIn_13 : decode cX0_clearIn 13 = .ok (.iconst 1, 1) := dk_4 (dk_at dksX0_clearIn_0 13 rfl rfl)
theorem dX0_clearIn_14 : decode cX0_clearIn 14 = .ok (.ireturn, 1) := dk_172 (dk_at dksX0_clearIn_0 14 rfl rfl)
theorem dX0_clearIn_15 : decode cX0_clearIn 15 = .ok (.astore_n 3, 1) := dk_78 (dk_at dksX0_clearIn_0 15 rfl rfl)
theorem dX0_clearIn_16 : decode cX0_clearIn 16 = .ok (.iconst 2, 1) := dk_5 (dk_at dksX0_clearIn_0 16 rfl rfl)
theorem dX0_clearIn_17 : decode cX0_clearIn 17 = .ok (.ireturn, 1) := dk_172 (dk_at dksX0_clearIn_0 17 rfl rfl)
theorem dX0_clearIn_18 : decode cX0_clearIn 18 = .ok (.iconst 0, 1) := dk_3 (dk_at dksX0_clearIn_0 18 rfl rfl)
theorem dX0_clearIn_19 : decode cX0_clearIn 19 = .ok (.ireturn, 1) := dk_172 (dk_at dksX0_clearIn_0 19 rfl rfl)
abbrev cX0_messageOf : ByteArray := method_20_code
def dkwX0_messageOf_0 : List UInt8 := [45, 3, 42, 27, 28, 182, 0, 74, 133, 80, 167, 0, 11, 58, 4, 4, 172, 58, 4, 5, 172, 3, 172]
abbrev dktX0_messageOf_0 : List UInt8 := dkwX0_messageOf_0 ++ []
theorem dksX0_messageOf_0 : cX0_messageOf.data.toList.drop 0 = dktX0_messageOf_0 := by decide +kernel
theorem dX0_messageOf_0 : decode cX0_messageOf 0 = .ok (.aload_n 3, 1) := dk_45 (dk_at dksX0_messageOf_0 0 rfl rfl)
theorem dX0_messageOf_1 : decode cX0_messageOf 1 = .ok (.iconst 0, 1) := dk_3 (dk_at dksX0_messageOf_0 1 rfl rfl)
theorem dX0_messageOf_2 : decode cX0_messageOf 2 = .ok (.aload_n 0, 1) := dk_42 (dk_at dksX0_messageOf_0 2 rfl rfl)
theorem dX0_messageOf_3 : decode cX0_messageOf 3 = .ok (.iload_n 1, 1) := dk_27 (dk_at dksX0_messageOf_0 3 rfl rfl)
theorem dX0_messageOf_4 : decode cX0_messageOf 4 = .ok (.iload_n 2, 1) := dk_28 (dk_at dksX0_messageOf_0 4 rfl rfl)
theorem dX0_messageOf_5 : decode cX0_messageOf 5 = .ok (.invokevirtual 74, 3) := dk_182 0 74 (dk_at dksX0_messageOf_0 5 rfl rfl)
theorem dX0_messageOf_8 : decode cX0_messageOf 8 = .ok (.i2l, 1) := dk_133 (dk_at dksX0_messageOf_0 8 rfl rfl)
theorem dX0_messageOf_9 : decode cX0_messageOf 9 = .ok (.lastore, 1) := dk_80 (dk_at dksX0_messageOf_0 9 rfl rfl)
theorem dX0_messageOf_10 : decode cX0_messageOf 10 = .ok (.goto 11, 3) := dk_167 0 11 (dk_at dksX0_messageOf_0 10 rfl rfl)
theorem dX0_messageOf_13 : decode cX0_messageOf 13 = .ok (.astore 4, 2) := dk_58 4 (dk_at dksX0_messageOf_0 13 rfl rfl)
theorem dX0_messageOf_15 : decode cX0_messageOf 15 = .ok (.iconst 1, 1) := dk_4 (dk_at dksX0_messageOf_0 15 rfl rfl)
theorem dX0_messageOf_16 : decode cX0_messageOf 16 = .ok (.ireturn, 1) := dk_172 (dk_at dksX0_messageOf_0 16 rfl rfl)
theorem dX0_messageOf_17 : decode cX0_messageOf 17 = .ok (.astore 4, 2) := dk_58 4 (dk_at dksX0_messageOf_0 17 rfl rfl)
theorem dX0_messageOf_19 : decode cX0_messageOf 19 = .ok (.iconst 2, 1) := dk_5 (dk_at dksX0_messageOf_0 19 rfl rfl)
theorem dX0_messageOf_20 : decode cX0_messageOf 20 = .ok (.ireturn, 1) := dk_172 (dk_at dksX0_messageOf_0 20 rfl rfl)
theorem dX0_messageOf_21 : decode cX0_messageOf 21 = .ok (.iconst 0, 1) := dk_3 (dk_at dksX0_messageOf_0 21 rfl rfl)
theorem dX0_messageOf_22 : decode cX0_messageOf 22 = .ok (.ireturn, 1) := dk_172 (dk_at dksX0_messageOf_0 22 rfl rfl)
abbrev cX0_logOf : ByteArray := method_21_code
def dkwX0_logOf_1 : List UInt8 := [58, 5, 6, 172, 3, 172]
abbrev dktX0_logOf_1 : List UInt8 := dkwX0_logOf_1 ++ []
def dkwX0_logOf_0 : List UInt8 := [25, 4, 3, 42, 27, 28, 29, 182, 0, 77, 133, 80, 167, 0, 15, 58, 5, 4, 172, 58, 5, 5, 172]
abbrev dktX0_logOf_0 : List UInt8 := dkwX0_logOf_0 ++ dktX0_logOf_1
theorem dksX0_logOf_0 : cX0_logOf.data.toList.drop 0 = dktX0_logOf_0 := by decide +kernel
theorem dksX0_logOf_1 : cX0_logOf.data.toList.drop 23 = dktX0_logOf_1 := dk_seg dksX0_logOf_0 23 rfl rfl
theorem dX0_logOf_0 : decode cX0_logOf 0 = .ok (.aload 4, 2) := dk_25 4 (dk_at dksX0_logOf_0 0 rfl rfl)
theorem dX0_logOf_2 : decode cX0_logOf 2 = .ok (.iconst 0, 1) := dk_3 (dk_at dksX0_logOf_0 2 rfl rfl)
theorem dX0_logOf_3 : decode cX0_logOf 3 = .ok (.aload_n 0, 1) := dk_42 (dk_at dksX0_logOf_0 3 rfl rfl)
theorem dX0_logOf_4 : decode cX0_logOf 4 = .ok (.iload_n 1, 1) := dk_27 (dk_at dksX0_logOf_0 4 rfl rfl)
theorem dX0_logOf_5 : decode cX0_logOf 5 = .ok (.iload_n 2, 1) := dk_28 (dk_at dksX0_logOf_0 5 rfl rfl)
theorem dX0_logOf_6 : decode cX0_logOf 6 = .ok (.iload_n 3, 1) := dk_29 (dk_at dksX0_logOf_0 6 rfl rfl)
theorem dX0_logOf_7 : decode cX0_logOf 7 = .ok (.invokevirtual 77, 3) := dk_182 0 77 (dk_at dksX0_logOf_0 7 rfl rfl)
theorem dX0_logOf_10 : decode cX0_logOf 10 = .ok (.i2l, 1) := dk_133 (dk_at dksX0_logOf_0 10 rfl rfl)
theorem dX0_logOf_11 : decode cX0_logOf 11 = .ok (.lastore, 1) := dk_80 (dk_at dksX0_logOf_0 11 rfl rfl)
theorem dX0_logOf_12 : decode cX0_logOf 12 = .ok (.goto 15, 3) := dk_167 0 15 (dk_at dksX0_logOf_0 12 rfl rfl)
theorem dX0_logOf_15 : decode cX0_logOf 15 = .ok (.astore 5, 2) := dk_58 5 (dk_at dksX0_logOf_0 15 rfl rfl)
theorem dX0_logOf_17 : decode cX0_logOf 17 = .ok (.iconst 1, 1) := dk_4 (dk_at dksX0_logOf_0 17 rfl rfl)
theorem dX0_logOf_18 : decode cX0_logOf 18 = .ok (.ireturn, 1) := dk_172 (dk_at dksX0_logOf_0 18 rfl rfl)
theorem dX0_logOf_19 : decode cX0_logOf 19 = .ok (.astore 5, 2) := dk_58 5 (dk_at dksX0_logOf_0 19 rfl rfl)
theorem dX0_logOf_21 : decode cX0_logOf 21 = .ok (.iconst 2, 1) := dk_5 (dk_at dksX0_logOf_0 21 rfl rfl)
theorem dX0_logOf_22 : decode cX0_logOf 22 = .ok (.ireturn, 1) := dk_172 (dk_at dksX0_logOf_0 22 rfl rfl)
theorem dX0_logOf_23 : decode cX0_logOf 23 = .ok (.astore 5, 2) := dk_58 5 (dk_at dksX0_logOf_1 0 rfl rfl)
theorem dX0_logOf_25 : decode cX0_logOf 25 = .ok (.iconst 3, 1) := dk_6 (dk_at dksX0_logOf_1 2 rfl rfl)
theorem dX0_logOf_26 : decode cX0_logOf 26 = .ok (.ireturn, 1) := dk_172 (dk_at dksX0_logOf_1 3 rfl rfl)
theorem dX0_logOf_27 : decode cX0_logOf 27 = .ok (.iconst 0, 1) := dk_3 (dk_at dksX0_logOf_1 4 rfl rfl)
theorem dX0_logOf_28 : decode cX0_logOf 28 = .ok (.ireturn, 1) := dk_172 (dk_at dksX0_logOf_1 5 rfl rfl)
abbrev cX0_ranked : ByteArray := method_22_code
def dkwX0_ranked_0 : List UInt8 := [44, 3, 42, 27, 182, 0, 80, 133, 80, 167, 0, 6, 78, 4, 172, 3, 172]
abbrev dktX0_ranked_0 : List UInt8 := dkwX0_ranked_0 ++ []
theorem dksX0_ranked_0 : cX0_ranked.data.toList.drop 0 = dktX0_ranked_0 := by decide +kernel
theorem dX0_ranked_0 : decode cX0_ranked 0 = .ok (.aload_n 2, 1) := dk_44 (dk_at dksX0_ranked_0 0 rfl rfl)
theorem dX0_ranked_1 : decode cX0_ranked 1 = .ok (.iconst 0, 1) := dk_3 (dk_at dksX0_ranked_0 1 rfl rfl)
theorem dX0_ranked_2 : decode cX0_ranked 2 = .ok (.aload_n 0, 1) := dk_42 (dk_at dksX0_ranked_0 2 rfl rfl)
theorem dX0_ranked_3 : decode cX0_ranked 3 = .ok (.iload_n 1, 1) := dk_27 (dk_at dksX0_ranked_0 3 rfl rfl)
theorem dX0_ranked_4 : decode cX0_ranked 4 = .ok (.invokevirtual 80, 3) := dk_182 0 80 (dk_at dksX0_ranked_0 4 rfl rfl)
theorem dX0_ranked_7 : decode cX0_ranked 7 = .ok (.i2l, 1) := dk_133 (dk_at dksX0_ranked_0 7 rfl rfl)
theorem dX0_ranked_8 : decode cX0_ranked 8 = .ok (.lastore, 1) := dk_80 (dk_at dksX0_ranked_0 8 rfl rfl)
theorem dX0_ranked_9 : decode cX0_ranked 9 = .ok (.goto 6, 3) := dk_167 0 6 (dk_at dksX0_ranked_0 9 rfl rfl)
theorem dX0_ranked_12 : decode cX0_ranked 12 = .ok (.astore_n 3, 1) := dk_78 (dk_at dksX0_ranked_0 12 rfl rfl)
theorem dX0_ranked_13 : decode cX0_ranked 13 = .ok (.iconst 1, 1) := dk_4 (dk_at dksX0_ranked_0 13 rfl rfl)
theorem dX0_ranked_14 : decode cX0_ranked 14 = .ok (.ireturn, 1) := dk_172 (dk_at dksX0_ranked_0 14 rfl rfl)
theorem dX0_ranked_15 : decode cX0_ranked 15 = .ok (.iconst 0, 1) := dk_3 (dk_at dksX0_ranked_0 15 rfl rfl)
theorem dX0_ranked_16 : decode cX0_ranked 16 = .ok (.ireturn, 1) := dk_172 (dk_at dksX0_ranked_0 16 rfl rfl)
abbrev cX0_type : ByteArray := method_23_code
def dkwX0_type_0 : List UInt8 := [44, 3, 42, 27, 182, 0, 83, 133, 80, 167, 0, 6, 78, 4, 172, 3, 172]
abbrev dktX0_type_0 : List UInt8 := dkwX0_type_0 ++ []
theorem dksX0_type_0 : cX0_type.data.toList.drop 0 = dktX0_type_0 := by decide +kernel
theorem dX0_type_0 : decode cX0_type 0 = .ok (.aload_n 2, 1) := dk_44 (dk_at dksX0_type_0 0 rfl rfl)
theorem dX0_type_1 : decode cX0_type 1 = .ok (.iconst 0, 1) := dk_3 (dk_at dksX0_type_0 1 rfl rfl)
theorem dX0_type_2 : decode cX0_type 2 = .ok (.aload_n 0, 1) := dk_42 (dk_at dksX0_type_0 2 rfl rfl)
theorem dX0_type_3 : decode cX0_type 3 = .ok (.iload_n 1, 1) := dk_27 (dk_at dksX0_type_0 3 rfl rfl)
theorem dX0_type_4 : decode cX0_type 4 = .ok (.invokevirtual 83, 3) := dk_182 0 83 (dk_at dksX0_type_0 4 rfl rfl)
theorem dX0_type_7 : decode cX0_type 7 = .ok (.i2l, 1) := dk_133 (dk_at dksX0_type_0 7 rfl rfl)
theorem dX0_type_8 : decode cX0_type 8 = .ok (.lastore, 1) := dk_80 (dk_at dksX0_type_0 8 rfl rfl)
theorem dX0_type_9 : decode cX0_type 9 = .ok (.goto 6, 3) := dk_167 0 6 (dk_at dksX0_type_0 9 rfl rfl)
theorem dX0_type_12 : decode cX0_type 12 = .ok (.astore_n 3, 1) := dk_78 (dk_at dksX0_type_0 12 rfl rfl)
theorem dX0_type_13 : decode cX0_type 13 = .ok (.iconst 1, 1) := dk_4 (dk_at dksX0_type_0 13 rfl rfl)
theorem dX0_type_14 : decode cX0_type 14 = .ok (.ireturn, 1) := dk_172 (dk_at dksX0_type_0 14 rfl rfl)
theorem dX0_type_15 : decode cX0_type 15 = .ok (.iconst 0, 1) := dk_3 (dk_at dksX0_type_0 15 rfl rfl)
theorem dX0_type_16 : decode cX0_type 16 = .ok (.ireturn, 1) := dk_172 (dk_at dksX0_type_0 16 rfl rfl)
abbrev cX0_read : ByteArray := method_24_code
def dkwX0_read_0 : List UInt8 := [43, 3, 42, 182, 0, 89, 133, 80, 167, 0, 9, 77, 4, 172, 77, 5, 172, 3, 172]
abbrev dktX0_read_0 : List UInt8 := dkwX0_read_0 ++ []
theorem dksX0_read_0 : cX0_read.data.toList.drop 0 = dktX0_read_0 := by decide +kernel
theorem dX0_read_0 : decode cX0_read 0 = .ok (.aload_n 1, 1) := dk_43 (dk_at dksX0_read_0 0 rfl rfl)
theorem dX0_read_1 : decode cX0_read 1 = .ok (.iconst 0, 1) := dk_3 (dk_at dksX0_read_0 1 rfl rfl)
theorem dX0_read_2 : decode cX0_read 2 = .ok (.aload_n 0, 1) := dk_42 (dk_at dksX0_read_0 2 rfl rfl)
theorem dX0_read_3 : decode cX0_read 3 = .ok (.invokevirtual 89, 3) := dk_182 0 89 (dk_at dksX0_read_0 3 rfl rfl)
theorem dX0_read_6 : decode cX0_read 6 = .ok (.i2l, 1) := dk_133 (dk_at dksX0_read_0 6 rfl rfl)
theorem dX0_read_7 : decode cX0_read 7 = .ok (.lastore, 1) := dk_80 (dk_at dksX0_read_0 7 rfl rfl)
theorem dX0_read_8 : decode cX0_read 8 = .ok (.goto 9, 3) := dk_167 0 9 (dk_at dksX0_read_0 8 rfl rfl)
theorem dX0_read_11 : decode cX0_read 11 = .ok (.astore_n 2, 1) := dk_77 (dk_at dksX0_read_0 11 rfl rfl)
theorem dX0_read_12 : decode cX0_read 12 = .ok (.iconst 1, 1) := dk_4 (dk_at dksX0_read_0 12 rfl rfl)
theorem dX0_read_13 : decode cX0_read 13 = .ok (.ireturn, 1) := dk_172 (dk_at dksX0_read_0 13 rfl rfl)
theorem dX0_read_14 : decode cX0_read 14 = .ok (.astore_n 2, 1) := dk_77 (dk_at dksX0_read_0 14 rfl rfl)
theorem dX0_read_15 : decode cX0_read 15 = .ok (.iconst 2, 1) := dk_5 (dk_at dksX0_read_0 15 rfl rfl)
theorem dX0_read_16 : decode cX0_read 16 = .ok (.ireturn, 1) := dk_172 (dk_at dksX0_read_0 16 rfl rfl)
theorem dX0_read_17 : decode cX0_read 17 = .ok (.iconst 0, 1) := dk_3 (dk_at dksX0_read_0 17 rfl rfl)
theorem dX0_read_18 : decode cX0_read 18 = .ok (.ireturn, 1) := dk_172 (dk_at dksX0_read_0 18 rfl rfl)
abbrev cX0_errorPosition : ByteArray := method_25_code
def dkwX0_errorPosition_0 : List UInt8 := [43, 3, 42, 182, 0, 92, 133, 80, 167, 0, 6, 77, 4, 172, 3, 172]
abbrev dktX0_errorPosition_0 : List UInt8 := dkwX0_errorPosition_0 ++ []
theorem dksX0_errorPosition_0 : cX0_errorPosition.data.toList.drop 0 = dktX0_errorPosition_0 := by decide +kernel
theorem dX0_errorPosition_0 : decode cX0_errorPosition 0 = .ok (.aload_n 1, 1) := dk_43 (dk_at dksX0_errorPosition_0 0 rfl rfl)
theorem dX0_errorPosition_1 : decode cX0_errorPosition 1 = .ok (.iconst 0, 1) := dk_3 (dk_at dksX0_errorPosition_0 1 rfl rfl)
theorem dX0_errorPosition_2 : decode cX0_errorPosition 2 = .ok (.aload_n 0, 1) := dk_42 (dk_at dksX0_errorPosition_0 2 rfl rfl)
theorem dX0_errorPosition_3 : decode cX0_errorPosition 3 = .ok (.invokevirtual 92, 3) := dk_182 0 92 (dk_at dksX0_errorPosition_0 3 rfl rfl)
theorem dX0_errorPosition_6 : decode cX0_errorPosition 6 = .ok (.i2l, 1) := dk_133 (dk_at dksX0_errorPosition_0 6 rfl rfl)
theorem dX0_errorPosition_7 : decode cX0_errorPosition 7 = .ok (.lastore, 1) := dk_80 (dk_at dksX0_errorPosition_0 7 rfl rfl)
theorem dX0_errorPosition_8 : decode cX0_errorPosition 8 = .ok (.goto 6, 3) := dk_167 0 6 (dk_at dksX0_errorPosition_0 8 rfl rfl)
theorem dX0_errorPosition_11 : decode cX0_errorPosition 11 = .ok (.astore_n 2, 1) := dk_77 (dk_at dksX0_errorPosition_0 11 rfl rfl)
theorem dX0_errorPosition_12 : decode cX0_errorPosition 12 = .ok (.iconst 1, 1) := dk_4 (dk_at dksX0_errorPosition_0 12 rfl rfl)
theorem dX0_errorPosition_13 : decode cX0_errorPosition 13 = .ok (.ireturn, 1) := dk_172 (dk_at dksX0_errorPosition_0 13 rfl rfl)
theorem dX0_errorPosition_14 : decode cX0_errorPosition 14 = .ok (.iconst 0, 1) := dk_3 (dk_at dksX0_errorPosition_0 14 rfl rfl)
theorem dX0_errorPosition_15 : decode cX0_errorPosition 15 = .ok (.ireturn, 1) := dk_172 (dk_at dksX0_errorPosition_0 15 rfl rfl)
abbrev cX0_refusal : ByteArray := method_26_code
def dkwX0_refusal_0 : List UInt8 := [44, 3, 42, 27, 182, 0, 95, 133, 80, 167, 0, 6, 78, 4, 172, 3, 172]
abbrev dktX0_refusal_0 : List UInt8 := dkwX0_refusal_0 ++ []
theorem dksX0_refusal_0 : cX0_refusal.data.toList.drop 0 = dktX0_refusal_0 := by decide +kernel
theorem dX0_refusal_0 : decode cX0_refusal 0 = .ok (.aload_n 2, 1) := dk_44 (dk_at dksX0_refusal_0 0 rfl rfl)
theorem dX0_refusal_1 : decode cX0_refusal 1 = .ok (.iconst 0, 1) := dk_3 (dk_at dksX0_refusal_0 1 rfl rfl)
theorem dX0_refusal_2 : decode cX0_refusal 2 = .ok (.aload_n 0, 1) := dk_42 (dk_at dksX0_refusal_0 2 rfl rfl)
theorem dX0_refusal_3 : decode cX0_refusal 3 = .ok (.iload_n 1, 1) := dk_27 (dk_at dksX0_refusal_0 3 rfl rfl)
theorem dX0_refusal_4 : decode cX0_refusal 4 = .ok (.invokevirtual 95, 3) := dk_182 0 95 (dk_at dksX0_refusal_0 4 rfl rfl)
theorem dX0_refusal_7 : decode cX0_refusal 7 = .ok (.i2l, 1) := dk_133 (dk_at dksX0_refusal_0 7 rfl rfl)
theorem dX0_refusal_8 : decode cX0_refusal 8 = .ok (.lastore, 1) := dk_80 (dk_at dksX0_refusal_0 8 rfl rfl)
theorem dX0_refusal_9 : decode cX0_refusal 9 = .ok (.goto 6, 3) := dk_167 0 6 (dk_at dksX0_refusal_0 9 rfl rfl)
theorem dX0_refusal_12 : decode cX0_refusal 12 = .ok (.astore_n 3, 1) := dk_78 (dk_at dksX0_refusal_0 12 rfl rfl)
theorem dX0_refusal_13 : decode cX0_refusal 13 = .ok (.iconst 1, 1) := dk_4 (dk_at dksX0_refusal_0 13 rfl rfl)
theorem dX0_refusal_14 : decode cX0_refusal 14 = .ok (.ireturn, 1) := dk_172 (dk_at dksX0_refusal_0 14 rfl rfl)
theorem dX0_refusal_15 : decode cX0_refusal 15 = .ok (.iconst 0, 1) := dk_3 (dk_at dksX0_refusal_0 15 rfl rfl)
theorem dX0_refusal_16 : decode cX0_refusal 16 = .ok (.ireturn, 1) := dk_172 (dk_at dksX0_refusal_0 16 rfl rfl)
abbrev cX0_describe : ByteArray := method_27_code
def dkwX0_describe_0 : List UInt8 := [44, 3, 42, 27, 182, 0, 99, 133, 80, 167, 0, 6, 78, 4, 172, 3, 172]
abbrev dktX0_describe_0 : List UInt8 := dkwX0_describe_0 ++ []
theorem dksX0_describe_0 : cX0_describe.data.toList.drop 0 = dktX0_describe_0 := by decide +kernel
theorem dX0_describe_0 : decode cX0_describe 0 = .ok (.aload_n 2, 1) := dk_44 (dk_at dksX0_describe_0 0 rfl rfl)
theorem dX0_describe_1 : decode cX0_describe 1 = .ok (.iconst 0, 1) := dk_3 (dk_at dksX0_describe_0 1 rfl rfl)
theorem dX0_describe_2 : decode cX0_describe 2 = .ok (.aload_n 0, 1) := dk_42 (dk_at dksX0_describe_0 2 rfl rfl)
theorem dX0_describe_3 : decode cX0_describe 3 = .ok (.iload_n 1, 1) := dk_27 (dk_at dksX0_describe_0 3 rfl rfl)
theorem dX0_describe_4 : decode cX0_describe 4 = .ok (.invokevirtual 99, 3) := dk_182 0 99 (dk_at dksX0_describe_0 4 rfl rfl)
theorem dX0_describe_7 : decode cX0_describe 7 = .ok (.i2l, 1) := dk_133 (dk_at dksX0_describe_0 7 rfl rfl)
theorem dX0_describe_8 : decode cX0_describe 8 = .ok (.lastore, 1) := dk_80 (dk_at dksX0_describe_0 8 rfl rfl)
theorem dX0_describe_9 : decode cX0_describe 9 = .ok (.goto 6, 3) := dk_167 0 6 (dk_at dksX0_describe_0 9 rfl rfl)
theorem dX0_describe_12 : decode cX0_describe 12 = .ok (.astore_n 3, 1) := dk_78 (dk_at dksX0_describe_0 12 rfl rfl)
theorem dX0_describe_13 : decode cX0_describe 13 = .ok (.iconst 1, 1) := dk_4 (dk_at dksX0_describe_0 13 rfl rfl)
theorem dX0_describe_14 : decode cX0_describe 14 = .ok (.ireturn, 1) := dk_172 (dk_at dksX0_describe_0 14 rfl rfl)
theorem dX0_describe_15 : decode cX0_describe 15 = .ok (.iconst 0, 1) := dk_3 (dk_at dksX0_describe_0 15 rfl rfl)
theorem dX0_describe_16 : decode cX0_describe 16 = .ok (.ireturn, 1) := dk_172 (dk_at dksX0_describe_0 16 rfl rfl)
abbrev cX0_written : ByteArray := method_28_code
def dkwX0_written_0 : List UInt8 := [44, 3, 42, 27, 182, 0, 102, 133, 80, 167, 0, 6, 78, 4, 172, 3, 172]
abbrev dktX0_written_0 : List UInt8 := dkwX0_written_0 ++ []
theorem dksX0_written_0 : cX0_written.data.toList.drop 0 = dktX0_written_0 := by decide +kernel
theorem dX0_written_0 : decode cX0_written 0 = .ok (.aload_n 2, 1) := dk_44 (dk_at dksX0_written_0 0 rfl rfl)
theorem dX0_written_1 : decode cX0_written 1 = .ok (.iconst 0, 1) := dk_3 (dk_at dksX0_written_0 1 rfl rfl)
theorem dX0_written_2 : decode cX0_written 2 = .ok (.aload_n 0, 1) := dk_42 (dk_at dksX0_written_0 2 rfl rfl)
theorem dX0_written_3 : decode cX0_written 3 = .ok (.iload_n 1, 1) := dk_27 (dk_at dksX0_written_0 3 rfl rfl)
theorem dX0_written_4 : decode cX0_written 4 = .ok (.invokevirtual 102, 3) := dk_182 0 102 (dk_at dksX0_written_0 4 rfl rfl)
theorem dX0_written_7 : decode cX0_written 7 = .ok (.i2l, 1) := dk_133 (dk_at dksX0_written_0 7 rfl rfl)
theorem dX0_written_8 : decode cX0_written 8 = .ok (.lastore, 1) := dk_80 (dk_at dksX0_written_0 8 rfl rfl)
theorem dX0_written_9 : decode cX0_written 9 = .ok (.goto 6, 3) := dk_167 0 6 (dk_at dksX0_written_0 9 rfl rfl)
theorem dX0_written_12 : decode cX0_written 12 = .ok (.astore_n 3, 1) := dk_78 (dk_at dksX0_written_0 12 rfl rfl)
theorem dX0_written_13 : decode cX0_written 13 = .ok (.iconst 1, 1) := dk_4 (dk_at dksX0_written_0 13 rfl rfl)
theorem dX0_written_14 : decode cX0_written 14 = .ok (.ireturn, 1) := dk_172 (dk_at dksX0_written_0 14 rfl rfl)
theorem dX0_written_15 : decode cX0_written 15 = .ok (.iconst 0, 1) := dk_3 (dk_at dksX0_written_0 15 rfl rfl)
theorem dX0_written_16 : decode cX0_written 16 = .ok (.ireturn, 1) := dk_172 (dk_at dksX0_written_0 16 rfl rfl)
abbrev cX0_account : ByteArray := method_29_code
def dkwX0_account_0 : List UInt8 := [44, 3, 42, 27, 182, 0, 106, 133, 80, 167, 0, 6, 78, 4, 172, 3, 172]
abbrev dktX0_account_0 : List UInt8 := dkwX0_account_0 ++ []
theorem dksX0_account_0 : cX0_account.data.toList.drop 0 = dktX0_account_0 := by decide +kernel
theorem dX0_account_0 : decode cX0_account 0 = .ok (.aload_n 2, 1) := dk_44 (dk_at dksX0_account_0 0 rfl rfl)
theorem dX0_account_1 : decode cX0_account 1 = .ok (.iconst 0, 1) := dk_3 (dk_at dksX0_account_0 1 rfl rfl)
theorem dX0_account_2 : decode cX0_account 2 = .ok (.aload_n 0, 1) := dk_42 (dk_at dksX0_account_0 2 rfl rfl)
theorem dX0_account_3 : decode cX0_account 3 = .ok (.iload_n 1, 1) := dk_27 (dk_at dksX0_account_0 3 rfl rfl)
theorem dX0_account_4 : decode cX0_account 4 = .ok (.invokevirtual 106, 3) := dk_182 0 106 (dk_at dksX0_account_0 4 rfl rfl)
theorem dX0_account_7 : decode cX0_account 7 = .ok (.i2l, 1) := dk_133 (dk_at dksX0_account_0 7 rfl rfl)
theorem dX0_account_8 : decode cX0_account 8 = .ok (.lastore, 1) := dk_80 (dk_at dksX0_account_0 8 rfl rfl)
theorem dX0_account_9 : decode cX0_account 9 = .ok (.goto 6, 3) := dk_167 0 6 (dk_at dksX0_account_0 9 rfl rfl)
theorem dX0_account_12 : decode cX0_account 12 = .ok (.astore_n 3, 1) := dk_78 (dk_at dksX0_account_0 12 rfl rfl)
theorem dX0_account_13 : decode cX0_account 13 = .ok (.iconst 1, 1) := dk_4 (dk_at dksX0_account_0 13 rfl rfl)
theorem dX0_account_14 : decode cX0_account 14 = .ok (.ireturn, 1) := dk_172 (dk_at dksX0_account_0 14 rfl rfl)
theorem dX0_account_15 : decode cX0_account 15 = .ok (.iconst 0, 1) := dk_3 (dk_at dksX0_account_0 15 rfl rfl)
theorem dX0_account_16 : decode cX0_account 16 = .ok (.ireturn, 1) := dk_172 (dk_at dksX0_account_0 16 rfl rfl)
abbrev cX0_meanWait : ByteArray := method_30_code
def dkwX0_meanWait_0 : List UInt8 := [43, 3, 42, 182, 0, 109, 82, 167, 0, 6, 77, 4, 172, 3, 172]
abbrev dktX0_meanWait_0 : List UInt8 := dkwX0_meanWait_0 ++ []
theorem dksX0_meanWait_0 : cX0_meanWait.data.toList.drop 0 = dktX0_meanWait_0 := by decide +kernel
theorem dX0_meanWait_0 : decode cX0_meanWait 0 = .ok (.aload_n 1, 1) := dk_43 (dk_at dksX0_meanWait_0 0 rfl rfl)
theorem dX0_meanWait_1 : decode cX0_meanWait 1 = .ok (.iconst 0, 1) := dk_3 (dk_at dksX0_meanWait_0 1 rfl rfl)
theorem dX0_meanWait_2 : decode cX0_meanWait 2 = .ok (.aload_n 0, 1) := dk_42 (dk_at dksX0_meanWait_0 2 rfl rfl)
theorem dX0_meanWait_3 : decode cX0_meanWait 3 = .ok (.invokevirtual 109, 3) := dk_182 0 109 (dk_at dksX0_meanWait_0 3 rfl rfl)
theorem dX0_meanWait_6 : decode cX0_meanWait 6 = .ok (.dastore, 1) := dk_82 (dk_at dksX0_meanWait_0 6 rfl rfl)
theorem dX0_meanWait_7 : decode cX0_meanWait 7 = .ok (.goto 6, 3) := dk_167 0 6 (dk_at dksX0_meanWait_0 7 rfl rfl)
theorem dX0_meanWait_10 : decode cX0_meanWait 10 = .ok (.astore_n 2, 1) := dk_77 (dk_at dksX0_meanWait_0 10 rfl rfl)
theorem dX0_meanWait_11 : decode cX0_meanWait 11 = .ok (.iconst 1, 1) := dk_4 (dk_at dksX0_meanWait_0 11 rfl rfl)
theorem dX0_meanWait_12 : decode cX0_meanWait 12 = .ok (.ireturn, 1) := dk_172 (dk_at dksX0_meanWait_0 12 rfl rfl)
theorem dX0_meanWait_13 : decode cX0_meanWait 13 = .ok (.iconst 0, 1) := dk_3 (dk_at dksX0_meanWait_0 13 rfl rfl)
theorem dX0_meanWait_14 : decode cX0_meanWait 14 = .ok (.ireturn, 1) := dk_172 (dk_at dksX0_meanWait_0 14 rfl rfl)
abbrev cX0_servedShare : ByteArray := method_31_code
def dkwX0_servedShare_0 : List UInt8 := [43, 3, 42, 182, 0, 115, 141, 82, 167, 0, 6, 77, 4, 172, 3, 172]
abbrev dktX0_servedShare_0 : List UInt8 := dkwX0_servedShare_0 ++ []
theorem dksX0_servedShare_0 : cX0_servedShare.data.toList.drop 0 = dktX0_servedShare_0 := by decide +kernel
theorem dX0_servedShare_0 : decode cX0_servedShare 0 = .ok (.aload_n 1, 1) := dk_43 (dk_at dksX0_servedShare_0 0 rfl rfl)
theorem dX0_servedShare_1 : decode cX0_servedShare 1 = .ok (.iconst 0, 1) := dk_3 (dk_at dksX0_servedShare_0 1 rfl rfl)
theorem dX0_servedShare_2 : decode cX0_servedShare 2 = .ok (.aload_n 0, 1) := dk_42 (dk_at dksX0_servedShare_0 2 rfl rfl)
theorem dX0_servedShare_3 : decode cX0_servedShare 3 = .ok (.invokevirtual 115, 3) := dk_182 0 115 (dk_at dksX0_servedShare_0 3 rfl rfl)
theorem dX0_servedShare_6 : decode cX0_servedShare 6 = .ok (.f2d, 1) := dk_141 (dk_at dksX0_servedShare_0 6 rfl rfl)
theorem dX0_servedShare_7 : decode cX0_servedShare 7 = .ok (.dastore, 1) := dk_82 (dk_at dksX0_servedShare_0 7 rfl rfl)
theorem dX0_servedShare_8 : decode cX0_servedShare 8 = .ok (.goto 6, 3) := dk_167 0 6 (dk_at dksX0_servedShare_0 8 rfl rfl)
theorem dX0_servedShare_11 : decode cX0_servedShare 11 = .ok (.astore_n 2, 1) := dk_77 (dk_at dksX0_servedShare_0 11 rfl rfl)
theorem dX0_servedShare_12 : decode cX0_servedShare 12 = .ok (.iconst 1, 1) := dk_4 (dk_at dksX0_servedShare_0 12 rfl rfl)
theorem dX0_servedShare_13 : decode cX0_servedShare 13 = .ok (.ireturn, 1) := dk_172 (dk_at dksX0_servedShare_0 13 rfl rfl)
theorem dX0_servedShare_14 : decode cX0_servedShare 14 = .ok (.iconst 0, 1) := dk_3 (dk_at dksX0_servedShare_0 14 rfl rfl)
theorem dX0_servedShare_15 : decode cX0_servedShare 15 = .ok (.ireturn, 1) := dk_172 (dk_at dksX0_servedShare_0 15 rfl rfl)
abbrev cX0_undo : ByteArray := method_32_code
def dkwX0_undo_0 : List UInt8 := [43, 3, 42, 182, 0, 119, 133, 80, 167, 0, 6, 77, 4, 172, 3, 172]
abbrev dktX0_undo_0 : List UInt8 := dkwX0_undo_0 ++ []
theorem dksX0_undo_0 : cX0_undo.data.toList.drop 0 = dktX0_undo_0 := by decide +kernel
theorem dX0_undo_0 : decode cX0_undo 0 = .ok (.aload_n 1, 1) := dk_43 (dk_at dksX0_undo_0 0 rfl rfl)
theorem dX0_undo_1 : decode cX0_undo 1 = .ok (.iconst 0, 1) := dk_3 (dk_at dksX0_undo_0 1 rfl rfl)
theorem dX0_undo_2 : decode cX0_undo 2 = .ok (.aload_n 0, 1) := dk_42 (dk_at dksX0_undo_0 2 rfl rfl)
theorem dX0_undo_3 : decode cX0_undo 3 = .ok (.invokevirtual 119, 3) := dk_182 0 119 (dk_at dksX0_undo_0 3 rfl rfl)
theorem dX0_undo_6 : decode cX0_undo 6 = .ok (.i2l, 1) := dk_133 (dk_at dksX0_undo_0 6 rfl rfl)
theorem dX0_undo_7 : decode cX0_undo 7 = .ok (.lastore, 1) := dk_80 (dk_at dksX0_undo_0 7 rfl rfl)
theorem dX0_undo_8 : decode cX0_undo 8 = .ok (.goto 6, 3) := dk_167 0 6 (dk_at dksX0_undo_0 8 rfl rfl)
theorem dX0_undo_11 : decode cX0_undo 11 = .ok (.astore_n 2, 1) := dk_77 (dk_at dksX0_undo_0 11 rfl rfl)
theorem dX0_undo_12 : decode cX0_undo 12 = .ok (.iconst 1, 1) := dk_4 (dk_at dksX0_undo_0 12 rfl rfl)
theorem dX0_undo_13 : decode cX0_undo 13 = .ok (.ireturn, 1) := dk_172 (dk_at dksX0_undo_0 13 rfl rfl)
theorem dX0_undo_14 : decode cX0_undo 14 = .ok (.iconst 0, 1) := dk_3 (dk_at dksX0_undo_0 14 rfl rfl)
theorem dX0_undo_15 : decode cX0_undo 15 = .ok (.ireturn, 1) := dk_172 (dk_at dksX0_undo_0 15 rfl rfl)
abbrev cX0_restore : ByteArray := method_33_code
def dkwX0_restore_0 : List UInt8 := [43, 3, 42, 182, 0, 122, 133, 80, 167, 0, 6, 77, 4, 172, 3, 172]
abbrev dktX0_restore_0 : List UInt8 := dkwX0_restore_0 ++ []
theorem dksX0_restore_0 : cX0_restore.data.toList.drop 0 = dktX0_restore_0 := by decide +kernel
theorem dX0_restore_0 : decode cX0_restore 0 = .ok (.aload_n 1, 1) := dk_43 (dk_at dksX0_restore_0 0 rfl rfl)
theorem dX0_restore_1 : decode cX0_restore 1 = .ok (.iconst 0, 1) := dk_3 (dk_at dksX0_restore_0 1 rfl rfl)
theorem dX0_restore_2 : decode cX0_restore 2 = .ok (.aload_n 0, 1) := dk_42 (dk_at dksX0_restore_0 2 rfl rfl)
theorem dX0_restore_3 : decode cX0_restore 3 = .ok (.invokevirtual 122, 3) := dk_182 0 122 (dk_at dksX0_restore_0 3 rfl rfl)
theorem dX0_restore_6 : decode cX0_restore 6 = .ok (.i2l, 1) := dk_133 (dk_at dksX0_restore_0 6 rfl rfl)
theorem dX0_restore_7 : decode cX0_restore 7 = .ok (.lastore, 1) := dk_80 (dk_at dksX0_restore_0 7 rfl rfl)
theorem dX0_restore_8 : decode cX0_restore 8 = .ok (.goto 6, 3) := dk_167 0 6 (dk_at dksX0_restore_0 8 rfl rfl)
theorem dX0_restore_11 : decode cX0_restore 11 = .ok (.astore_n 2, 1) := dk_77 (dk_at dksX0_restore_0 11 rfl rfl)
theorem dX0_restore_12 : decode cX0_restore 12 = .ok (.iconst 1, 1) := dk_4 (dk_at dksX0_restore_0 12 rfl rfl)
theorem dX0_restore_13 : decode cX0_restore 13 = .ok (.ireturn, 1) := dk_172 (dk_at dksX0_restore_0 13 rfl rfl)
theorem dX0_restore_14 : decode cX0_restore 14 = .ok (.iconst 0, 1) := dk_3 (dk_at dksX0_restore_0 14 rfl rfl)
theorem dX0_restore_15 : decode cX0_restore 15 = .ok (.ireturn, 1) := dk_172 (dk_at dksX0_restore_0 15 rfl rfl)
theorem q408 : (Jvm.Cond.castable "java/lang/IndexOutOfBoundsException" "java/lang/IndexOutOfBoundsException") ∈ lw_tbl := lw_at lw_m2 61 rfl
theorem mv408 : (Jvm.Cond.castable "java/lang/IndexOutOfBoundsException" "java/lang/IndexOutOfBoundsException") ∈ lw_mv := List.mem_filter.mpr ⟨q408, rfl⟩
theorem q645 : (Jvm.Cond.castable "java/lang/IllegalArgumentException" "java/lang/IllegalArgumentException") ∈ lw_tbl := lw_at lw_m3 58 rfl
theorem mv645 : (Jvm.Cond.castable "java/lang/IllegalArgumentException" "java/lang/IllegalArgumentException") ∈ lw_mv := List.mem_filter.mpr ⟨q645, rfl⟩
theorem q870 : (Jvm.Cond.castable "java/util/NoSuchElementException" "java/util/NoSuchElementException") ∈ lw_tbl := lw_at lw_m4 43 rfl
theorem mv870 : (Jvm.Cond.castable "java/util/NoSuchElementException" "java/util/NoSuchElementException") ∈ lw_mv := List.mem_filter.mpr ⟨q870, rfl⟩
theorem q1201 : (Jvm.Cond.classLink "BanquetVotesLaw" (13 : Nat) "java/lang/IllegalArgumentException") ∈ lw_all := lw_g (lw_at lw_m5 134 rfl) rfl
theorem q1202 : (Jvm.Cond.classLink "BanquetVotesLaw" (15 : Nat) "java/lang/UnsupportedOperationException") ∈ lw_all := lw_g (lw_at lw_m5 135 rfl) rfl
theorem q1203 : (Jvm.Cond.methodLink "BanquetVotesLaw" (7 : Nat) ({ cls := "BanquetVotes", name := "cook", desc := "(I)I" } : Jvm.MethodName)) ∈ lw_all := lw_g (lw_at lw_m5 136 rfl) rfl
theorem q1204 : (Jvm.Cond.instanceMethod ({ cls := "BanquetVotes", name := "cook", desc := "(I)I" } : Jvm.MethodName)) ∈ lw_all := lw_g (lw_at lw_m5 137 rfl) rfl
theorem q1205 : (Jvm.Cond.selects "BanquetVotes" ({ cls := "BanquetVotes", name := "cook", desc := "(I)I" } : Jvm.MethodName) ({ cls := "BanquetVotes", name := "cook", desc := "(I)I" } : Jvm.MethodName)) ∈ lw_all := lw_g (lw_at lw_m5 138 rfl) rfl
theorem q1206 : (Jvm.Cond.codeWith ({ cls := "BanquetVotes", name := "cook", desc := "(I)I" } : Jvm.MethodName) prog_1_method_16_code (4 : Nat) (Option.some Jvm.ClassFile.FieldType.int) [((17 : Nat), (27 : Nat), (28 : Nat), (1 : Nat))]) ∈ lw_all := lw_g (lw_at lw_m5 139 rfl) rfl
theorem q1959 : (Jvm.Cond.castable "java/lang/UnsupportedOperationException" "java/lang/UnsupportedOperationException") ∈ lw_tbl := lw_at lw_m8 172 rfl
theorem mv1959 : (Jvm.Cond.castable "java/lang/UnsupportedOperationException" "java/lang/UnsupportedOperationException") ∈ lw_mv := List.mem_filter.mpr ⟨q1959, rfl⟩
theorem q1975 : (Jvm.Cond.classLink "BanquetVotesLaw" (21 : Nat) "java/lang/IndexOutOfBoundsException") ∈ lw_all := lw_g (lw_at lw_m8 188 rfl) rfl
theorem q1991 : (Jvm.Cond.methodLink "BanquetVotesLaw" (17 : Nat) ({ cls := "BanquetVotes", name := "stock", desc := "(III)I" } : Jvm.MethodName)) ∈ lw_all := lw_g (lw_at lw_m8 204 rfl) rfl
theorem q1992 : (Jvm.Cond.instanceMethod ({ cls := "BanquetVotes", name := "stock", desc := "(III)I" } : Jvm.MethodName)) ∈ lw_all := lw_g (lw_at lw_m8 205 rfl) rfl
theorem q1993 : (Jvm.Cond.selects "BanquetVotes" ({ cls := "BanquetVotes", name := "stock", desc := "(III)I" } : Jvm.MethodName) ({ cls := "BanquetVotes", name := "stock", desc := "(III)I" } : Jvm.MethodName)) ∈ lw_all := lw_g (lw_at lw_m8 206 rfl) rfl
theorem q1994 : (Jvm.Cond.codeWith ({ cls := "BanquetVotes", name := "stock", desc := "(III)I" } : Jvm.MethodName) prog_1_method_17_code (6 : Nat) (Option.some Jvm.ClassFile.FieldType.int) [((28 : Nat), (42 : Nat), (43 : Nat), (1 : Nat))]) ∈ lw_all := lw_g (lw_at lw_m8 207 rfl) rfl
theorem q2045 : (Jvm.Cond.methodLink "BanquetVotesLaw" (23 : Nat) ({ cls := "BanquetVotes", name := "cookOf", desc := "(II)I" } : Jvm.MethodName)) ∈ lw_all := lw_g (lw_at lw_m9 18 rfl) rfl
theorem q2046 : (Jvm.Cond.instanceMethod ({ cls := "BanquetVotes", name := "cookOf", desc := "(II)I" } : Jvm.MethodName)) ∈ lw_all := lw_g (lw_at lw_m9 19 rfl) rfl
theorem q2047 : (Jvm.Cond.selects "BanquetVotes" ({ cls := "BanquetVotes", name := "cookOf", desc := "(II)I" } : Jvm.MethodName) ({ cls := "BanquetVotes", name := "cookOf", desc := "(II)I" } : Jvm.MethodName)) ∈ lw_all := lw_g (lw_at lw_m9 20 rfl) rfl
theorem q2048 : (Jvm.Cond.code ({ cls := "BanquetVotes", name := "cookOf", desc := "(II)I" } : Jvm.MethodName) prog_1_method_18_code (4 : Nat) (Option.some Jvm.ClassFile.FieldType.int)) ∈ lw_all := lw_g (lw_at lw_m9 21 rfl) rfl
theorem q2099 : (Jvm.Cond.methodLink "BanquetVotesLaw" (27 : Nat) ({ cls := "BanquetVotes", name := "course", desc := "()I" } : Jvm.MethodName)) ∈ lw_all := lw_g (lw_at lw_m9 72 rfl) rfl
theorem q2100 : (Jvm.Cond.instanceMethod ({ cls := "BanquetVotes", name := "course", desc := "()I" } : Jvm.MethodName)) ∈ lw_all := lw_g (lw_at lw_m9 73 rfl) rfl
theorem q2101 : (Jvm.Cond.selects "BanquetVotes" ({ cls := "BanquetVotes", name := "course", desc := "()I" } : Jvm.MethodName) ({ cls := "BanquetVotes", name := "course", desc := "()I" } : Jvm.MethodName)) ∈ lw_all := lw_g (lw_at lw_m9 74 rfl) rfl
theorem q2102 : (Jvm.Cond.codeWith ({ cls := "BanquetVotes", name := "course", desc := "()I" } : Jvm.MethodName) prog_1_method_19_code (3 : Nat) (Option.some Jvm.ClassFile.FieldType.int) [((8 : Nat), (17 : Nat), (18 : Nat), (1 : Nat))]) ∈ lw_all := lw_g (lw_at lw_m9 75 rfl) rfl
theorem q2111 : (Jvm.Cond.methodLink "BanquetVotesLaw" (31 : Nat) ({ cls := "BanquetVotes", name := "dish", desc := "(IIII)I" } : Jvm.MethodName)) ∈ lw_all := lw_g (lw_at lw_m9 84 rfl) rfl
theorem q2112 : (Jvm.Cond.instanceMethod ({ cls := "BanquetVotes", name := "dish", desc := "(IIII)I" } : Jvm.MethodName)) ∈ lw_all := lw_g (lw_at lw_m9 85 rfl) rfl
theorem q2113 : (Jvm.Cond.selects "BanquetVotes" ({ cls := "BanquetVotes", name := "dish", desc := "(IIII)I" } : Jvm.MethodName) ({ cls := "BanquetVotes", name := "dish", desc := "(IIII)I" } : Jvm.MethodName)) ∈ lw_all := lw_g (lw_at lw_m9 86 rfl) rfl
theorem q2114 : (Jvm.Cond.codeWith ({ cls := "BanquetVotes", name := "dish", desc := "(IIII)I" } : Jvm.MethodName) prog_1_method_20_code (7 : Nat) (Option.some Jvm.ClassFile.FieldType.int) [((34 : Nat), (50 : Nat), (51 : Nat), (1 : Nat))]) ∈ lw_all := lw_g (lw_at lw_m9 87 rfl) rfl
theorem q2151 : (Jvm.Cond.methodLink "BanquetVotesLaw" (35 : Nat) ({ cls := "BanquetVotes", name := "courseOf", desc := "(II)I" } : Jvm.MethodName)) ∈ lw_all := lw_g (lw_at lw_m9 124 rfl) rfl
theorem q2152 : (Jvm.Cond.instanceMethod ({ cls := "BanquetVotes", name := "courseOf", desc := "(II)I" } : Jvm.MethodName)) ∈ lw_all := lw_g (lw_at lw_m9 125 rfl) rfl
theorem q2153 : (Jvm.Cond.selects "BanquetVotes" ({ cls := "BanquetVotes", name := "courseOf", desc := "(II)I" } : Jvm.MethodName) ({ cls := "BanquetVotes", name := "courseOf", desc := "(II)I" } : Jvm.MethodName)) ∈ lw_all := lw_g (lw_at lw_m9 126 rfl) rfl
theorem q2154 : (Jvm.Cond.code ({ cls := "BanquetVotes", name := "courseOf", desc := "(II)I" } : Jvm.MethodName) prog_1_method_21_code (4 : Nat) (Option.some Jvm.ClassFile.FieldType.int)) ∈ lw_all := lw_g (lw_at lw_m9 127 rfl) rfl
theorem q2176 : (Jvm.Cond.classLink "BanquetVotesLaw" (41 : Nat) "java/util/NoSuchElementException") ∈ lw_all := lw_g (lw_at lw_m9 149 rfl) rfl
theorem q2177 : (Jvm.Cond.methodLink "BanquetVotesLaw" (38 : Nat) ({ cls := "BanquetVotes", name := "dishOf", desc := "(III)I" } : Jvm.MethodName)) ∈ lw_all := lw_g (lw_at lw_m9 150 rfl) rfl
theorem q2178 : (Jvm.Cond.instanceMethod ({ cls := "BanquetVotes", name := "dishOf", desc := "(III)I" } : Jvm.MethodName)) ∈ lw_all := lw_g (lw_at lw_m9 151 rfl) rfl
theorem q2179 : (Jvm.Cond.selects "BanquetVotes" ({ cls := "BanquetVotes", name := "dishOf", desc := "(III)I" } : Jvm.MethodName) ({ cls := "BanquetVotes", name := "dishOf", desc := "(III)I" } : Jvm.MethodName)) ∈ lw_all := lw_g (lw_at lw_m9 152 rfl) rfl
theorem q2180 : (Jvm.Cond.code ({ cls := "BanquetVotes", name := "dishOf", desc := "(III)I" } : Jvm.MethodName) prog_1_method_22_code (5 : Nat) (Option.some Jvm.ClassFile.FieldType.int)) ∈ lw_all := lw_g (lw_at lw_m9 153 rfl) rfl
theorem q2213 : (Jvm.Cond.methodLink "BanquetVotesLaw" (43 : Nat) ({ cls := "BanquetVotes", name := "has", desc := "(IIZ)I" } : Jvm.MethodName)) ∈ lw_all := lw_g (lw_at lw_m9 186 rfl) rfl
theorem q2214 : (Jvm.Cond.instanceMethod ({ cls := "BanquetVotes", name := "has", desc := "(IIZ)I" } : Jvm.MethodName)) ∈ lw_all := lw_g (lw_at lw_m9 187 rfl) rfl
theorem q2215 : (Jvm.Cond.selects "BanquetVotes" ({ cls := "BanquetVotes", name := "has", desc := "(IIZ)I" } : Jvm.MethodName) ({ cls := "BanquetVotes", name := "has", desc := "(IIZ)I" } : Jvm.MethodName)) ∈ lw_all := lw_g (lw_at lw_m9 188 rfl) rfl
theorem q2216 : (Jvm.Cond.code ({ cls := "BanquetVotes", name := "has", desc := "(IIZ)I" } : Jvm.MethodName) prog_1_method_23_code (4 : Nat) (Option.some Jvm.ClassFile.FieldType.int)) ∈ lw_all := lw_g (lw_at lw_m9 189 rfl) rfl
theorem q2235 : (Jvm.Cond.methodLink "BanquetVotesLaw" (47 : Nat) ({ cls := "BanquetVotes", name := "freeAgain", desc := "(II)I" } : Jvm.MethodName)) ∈ lw_all := lw_g (lw_at lw_m9 208 rfl) rfl
theorem q2236 : (Jvm.Cond.instanceMethod ({ cls := "BanquetVotes", name := "freeAgain", desc := "(II)I" } : Jvm.MethodName)) ∈ lw_all := lw_g (lw_at lw_m9 209 rfl) rfl
theorem q2237 : (Jvm.Cond.selects "BanquetVotes" ({ cls := "BanquetVotes", name := "freeAgain", desc := "(II)I" } : Jvm.MethodName) ({ cls := "BanquetVotes", name := "freeAgain", desc := "(II)I" } : Jvm.MethodName)) ∈ lw_all := lw_g (lw_at lw_m9 210 rfl) rfl
theorem q2238 : (Jvm.Cond.code ({ cls := "BanquetVotes", name := "freeAgain", desc := "(II)I" } : Jvm.MethodName) prog_1_method_24_code (3 : Nat) (Option.some Jvm.ClassFile.FieldType.int)) ∈ lw_all := lw_g (lw_at lw_m9 211 rfl) rfl
theorem q2250 : (Jvm.Cond.methodLink "BanquetVotesLaw" (50 : Nat) ({ cls := "BanquetVotes", name := "ask", desc := "(I)I" } : Jvm.MethodName)) ∈ lw_all := lw_g (lw_at lw_m9 223 rfl) rfl
theorem q2251 : (Jvm.Cond.instanceMethod ({ cls := "BanquetVotes", name := "ask", desc := "(I)I" } : Jvm.MethodName)) ∈ lw_all := lw_g (lw_at lw_m9 224 rfl) rfl
theorem q2252 : (Jvm.Cond.selects "BanquetVotes" ({ cls := "BanquetVotes", name := "ask", desc := "(I)I" } : Jvm.MethodName) ({ cls := "BanquetVotes", name := "ask", desc := "(I)I" } : Jvm.MethodName)) ∈ lw_all := lw_g (lw_at lw_m9 225 rfl) rfl
theorem q2253 : (Jvm.Cond.code ({ cls := "BanquetVotes", name := "ask", desc := "(I)I" } : Jvm.MethodName) prog_1_method_25_code (2 : Nat) (Option.some Jvm.ClassFile.FieldType.int)) ∈ lw_all := lw_g (lw_at lw_m9 226 rfl) rfl
theorem q2749 : (Jvm.Cond.methodLink "BanquetVotesLaw" (53 : Nat) ({ cls := "BanquetVotes", name := "cancel", desc := "(I)I" } : Jvm.MethodName)) ∈ lw_all := lw_g (lw_at lw_m12 2 rfl) rfl
theorem q2750 : (Jvm.Cond.instanceMethod ({ cls := "BanquetVotes", name := "cancel", desc := "(I)I" } : Jvm.MethodName)) ∈ lw_all := lw_g (lw_at lw_m12 3 rfl) rfl
theorem q2751 : (Jvm.Cond.selects "BanquetVotes" ({ cls := "BanquetVotes", name := "cancel", desc := "(I)I" } : Jvm.MethodName) ({ cls := "BanquetVotes", name := "cancel", desc := "(I)I" } : Jvm.MethodName)) ∈ lw_all := lw_g (lw_at lw_m12 4 rfl) rfl
theorem q2752 : (Jvm.Cond.code ({ cls := "BanquetVotes", name := "cancel", desc := "(I)I" } : Jvm.MethodName) prog_1_method_26_code (2 : Nat) (Option.some Jvm.ClassFile.FieldType.int)) ∈ lw_all := lw_g (lw_at lw_m12 5 rfl) rfl
theorem q2757 : (Jvm.Cond.methodLink "BanquetVotesLaw" (56 : Nat) ({ cls := "BanquetVotes", name := "faint", desc := "(I)I" } : Jvm.MethodName)) ∈ lw_all := lw_g (lw_at lw_m12 10 rfl) rfl
theorem q2758 : (Jvm.Cond.instanceMethod ({ cls := "BanquetVotes", name := "faint", desc := "(I)I" } : Jvm.MethodName)) ∈ lw_all := lw_g (lw_at lw_m12 11 rfl) rfl
theorem q2759 : (Jvm.Cond.selects "BanquetVotes" ({ cls := "BanquetVotes", name := "faint", desc := "(I)I" } : Jvm.MethodName) ({ cls := "BanquetVotes", name := "faint", desc := "(I)I" } : Jvm.MethodName)) ∈ lw_all := lw_g (lw_at lw_m12 12 rfl) rfl
theorem q2760 : (Jvm.Cond.code ({ cls := "BanquetVotes", name := "faint", desc := "(I)I" } : Jvm.MethodName) prog_1_method_27_code (2 : Nat) (Option.some Jvm.ClassFile.FieldType.int)) ∈ lw_all := lw_g (lw_at lw_m12 13 rfl) rfl
theorem q2769 : (Jvm.Cond.methodLink "BanquetVotesLaw" (59 : Nat) ({ cls := "BanquetVotes", name := "wake", desc := "(I)I" } : Jvm.MethodName)) ∈ lw_all := lw_g (lw_at lw_m12 22 rfl) rfl
theorem q2770 : (Jvm.Cond.instanceMethod ({ cls := "BanquetVotes", name := "wake", desc := "(I)I" } : Jvm.MethodName)) ∈ lw_all := lw_g (lw_at lw_m12 23 rfl) rfl
theorem q2771 : (Jvm.Cond.selects "BanquetVotes" ({ cls := "BanquetVotes", name := "wake", desc := "(I)I" } : Jvm.MethodName) ({ cls := "BanquetVotes", name := "wake", desc := "(I)I" } : Jvm.MethodName)) ∈ lw_all := lw_g (lw_at lw_m12 24 rfl) rfl
theorem q2772 : (Jvm.Cond.code ({ cls := "BanquetVotes", name := "wake", desc := "(I)I" } : Jvm.MethodName) prog_1_method_28_code (2 : Nat) (Option.some Jvm.ClassFile.FieldType.int)) ∈ lw_all := lw_g (lw_at lw_m12 25 rfl) rfl
theorem q2777 : (Jvm.Cond.methodLink "BanquetVotesLaw" (62 : Nat) ({ cls := "BanquetVotes", name := "learn", desc := "(III)I" } : Jvm.MethodName)) ∈ lw_all := lw_g (lw_at lw_m12 30 rfl) rfl
theorem q2778 : (Jvm.Cond.instanceMethod ({ cls := "BanquetVotes", name := "learn", desc := "(III)I" } : Jvm.MethodName)) ∈ lw_all := lw_g (lw_at lw_m12 31 rfl) rfl
theorem q2779 : (Jvm.Cond.selects "BanquetVotes" ({ cls := "BanquetVotes", name := "learn", desc := "(III)I" } : Jvm.MethodName) ({ cls := "BanquetVotes", name := "learn", desc := "(III)I" } : Jvm.MethodName)) ∈ lw_all := lw_g (lw_at lw_m12 32 rfl) rfl
theorem q2780 : (Jvm.Cond.code ({ cls := "BanquetVotes", name := "learn", desc := "(III)I" } : Jvm.MethodName) prog_1_method_29_code (4 : Nat) (Option.some Jvm.ClassFile.FieldType.int)) ∈ lw_all := lw_g (lw_at lw_m12 33 rfl) rfl
theorem q2785 : (Jvm.Cond.methodLink "BanquetVotesLaw" (65 : Nat) ({ cls := "BanquetVotes", name := "pass", desc := "(I)I" } : Jvm.MethodName)) ∈ lw_all := lw_g (lw_at lw_m12 38 rfl) rfl
theorem q2786 : (Jvm.Cond.instanceMethod ({ cls := "BanquetVotes", name := "pass", desc := "(I)I" } : Jvm.MethodName)) ∈ lw_all := lw_g (lw_at lw_m12 39 rfl) rfl
theorem q2787 : (Jvm.Cond.selects "BanquetVotes" ({ cls := "BanquetVotes", name := "pass", desc := "(I)I" } : Jvm.MethodName) ({ cls := "BanquetVotes", name := "pass", desc := "(I)I" } : Jvm.MethodName)) ∈ lw_all := lw_g (lw_at lw_m12 40 rfl) rfl
theorem q2788 : (Jvm.Cond.code ({ cls := "BanquetVotes", name := "pass", desc := "(I)I" } : Jvm.MethodName) prog_1_method_30_code (2 : Nat) (Option.some Jvm.ClassFile.FieldType.int)) ∈ lw_all := lw_g (lw_at lw_m12 41 rfl) rfl
theorem q2793 : (Jvm.Cond.methodLink "BanquetVotesLaw" (68 : Nat) ({ cls := "BanquetVotes", name := "courseIn", desc := "(II)I" } : Jvm.MethodName)) ∈ lw_all := lw_g (lw_at lw_m12 46 rfl) rfl
theorem q2794 : (Jvm.Cond.instanceMethod ({ cls := "BanquetVotes", name := "courseIn", desc := "(II)I" } : Jvm.MethodName)) ∈ lw_all := lw_g (lw_at lw_m12 47 rfl) rfl
theorem q2795 : (Jvm.Cond.selects "BanquetVotes" ({ cls := "BanquetVotes", name := "courseIn", desc := "(II)I" } : Jvm.MethodName) ({ cls := "BanquetVotes", name := "courseIn", desc := "(II)I" } : Jvm.MethodName)) ∈ lw_all := lw_g (lw_at lw_m12 48 rfl) rfl
theorem q2796 : (Jvm.Cond.code ({ cls := "BanquetVotes", name := "courseIn", desc := "(II)I" } : Jvm.MethodName) prog_1_method_31_code (4 : Nat) (Option.some Jvm.ClassFile.FieldType.int)) ∈ lw_all := lw_g (lw_at lw_m12 49 rfl) rfl
theorem q2801 : (Jvm.Cond.methodLink "BanquetVotesLaw" (71 : Nat) ({ cls := "BanquetVotes", name := "clearIn", desc := "(I)I" } : Jvm.MethodName)) ∈ lw_all := lw_g (lw_at lw_m12 54 rfl) rfl
theorem q2802 : (Jvm.Cond.instanceMethod ({ cls := "BanquetVotes", name := "clearIn", desc := "(I)I" } : Jvm.MethodName)) ∈ lw_all := lw_g (lw_at lw_m12 55 rfl) rfl
theorem q2803 : (Jvm.Cond.selects "BanquetVotes" ({ cls := "BanquetVotes", name := "clearIn", desc := "(I)I" } : Jvm.MethodName) ({ cls := "BanquetVotes", name := "clearIn", desc := "(I)I" } : Jvm.MethodName)) ∈ lw_all := lw_g (lw_at lw_m12 56 rfl) rfl
theorem q2804 : (Jvm.Cond.code ({ cls := "BanquetVotes", name := "clearIn", desc := "(I)I" } : Jvm.MethodName) prog_1_method_32_code (3 : Nat) (Option.some Jvm.ClassFile.FieldType.int)) ∈ lw_all := lw_g (lw_at lw_m12 57 rfl) rfl
theorem q2815 : (Jvm.Cond.methodLink "BanquetVotesLaw" (74 : Nat) ({ cls := "BanquetVotes", name := "messageOf", desc := "(II)I" } : Jvm.MethodName)) ∈ lw_all := lw_g (lw_at lw_m12 68 rfl) rfl
theorem q2816 : (Jvm.Cond.instanceMethod ({ cls := "BanquetVotes", name := "messageOf", desc := "(II)I" } : Jvm.MethodName)) ∈ lw_all := lw_g (lw_at lw_m12 69 rfl) rfl
theorem q2817 : (Jvm.Cond.selects "BanquetVotes" ({ cls := "BanquetVotes", name := "messageOf", desc := "(II)I" } : Jvm.MethodName) ({ cls := "BanquetVotes", name := "messageOf", desc := "(II)I" } : Jvm.MethodName)) ∈ lw_all := lw_g (lw_at lw_m12 70 rfl) rfl
theorem q2818 : (Jvm.Cond.code ({ cls := "BanquetVotes", name := "messageOf", desc := "(II)I" } : Jvm.MethodName) prog_1_method_34_code (5 : Nat) (Option.some Jvm.ClassFile.FieldType.int)) ∈ lw_all := lw_g (lw_at lw_m12 71 rfl) rfl
theorem q2867 : (Jvm.Cond.methodLink "BanquetVotesLaw" (77 : Nat) ({ cls := "BanquetVotes", name := "logOf", desc := "(III)I" } : Jvm.MethodName)) ∈ lw_all := lw_g (lw_at lw_m12 120 rfl) rfl
theorem q2868 : (Jvm.Cond.instanceMethod ({ cls := "BanquetVotes", name := "logOf", desc := "(III)I" } : Jvm.MethodName)) ∈ lw_all := lw_g (lw_at lw_m12 121 rfl) rfl
theorem q2869 : (Jvm.Cond.selects "BanquetVotes" ({ cls := "BanquetVotes", name := "logOf", desc := "(III)I" } : Jvm.MethodName) ({ cls := "BanquetVotes", name := "logOf", desc := "(III)I" } : Jvm.MethodName)) ∈ lw_all := lw_g (lw_at lw_m12 122 rfl) rfl
theorem q2870 : (Jvm.Cond.code ({ cls := "BanquetVotes", name := "logOf", desc := "(III)I" } : Jvm.MethodName) prog_1_method_35_code (5 : Nat) (Option.some Jvm.ClassFile.FieldType.int)) ∈ lw_all := lw_g (lw_at lw_m12 123 rfl) rfl
theorem q2881 : (Jvm.Cond.methodLink "BanquetVotesLaw" (80 : Nat) ({ cls := "BanquetVotes", name := "ranked", desc := "(I)I" } : Jvm.MethodName)) ∈ lw_all := lw_g (lw_at lw_m12 134 rfl) rfl
theorem q2882 : (Jvm.Cond.instanceMethod ({ cls := "BanquetVotes", name := "ranked", desc := "(I)I" } : Jvm.MethodName)) ∈ lw_all := lw_g (lw_at lw_m12 135 rfl) rfl
theorem q2883 : (Jvm.Cond.selects "BanquetVotes" ({ cls := "BanquetVotes", name := "ranked", desc := "(I)I" } : Jvm.MethodName) ({ cls := "BanquetVotes", name := "ranked", desc := "(I)I" } : Jvm.MethodName)) ∈ lw_all := lw_g (lw_at lw_m12 136 rfl) rfl
theorem q2884 : (Jvm.Cond.code ({ cls := "BanquetVotes", name := "ranked", desc := "(I)I" } : Jvm.MethodName) prog_1_method_36_code (3 : Nat) (Option.some Jvm.ClassFile.FieldType.int)) ∈ lw_all := lw_g (lw_at lw_m12 137 rfl) rfl
theorem q2899 : (Jvm.Cond.classLink "BanquetVotesLaw" (87 : Nat) "java/lang/IllegalStateException") ∈ lw_all := lw_g (lw_at lw_m12 152 rfl) rfl
theorem q2900 : (Jvm.Cond.methodLink "BanquetVotesLaw" (83 : Nat) ({ cls := "BanquetVotes", name := "type", desc := "(C)I" } : Jvm.MethodName)) ∈ lw_all := lw_g (lw_at lw_m12 153 rfl) rfl
theorem q2901 : (Jvm.Cond.instanceMethod ({ cls := "BanquetVotes", name := "type", desc := "(C)I" } : Jvm.MethodName)) ∈ lw_all := lw_g (lw_at lw_m12 154 rfl) rfl
theorem q2902 : (Jvm.Cond.selects "BanquetVotes" ({ cls := "BanquetVotes", name := "type", desc := "(C)I" } : Jvm.MethodName) ({ cls := "BanquetVotes", name := "type", desc := "(C)I" } : Jvm.MethodName)) ∈ lw_all := lw_g (lw_at lw_m12 155 rfl) rfl
theorem q2903 : (Jvm.Cond.code ({ cls := "BanquetVotes", name := "type", desc := "(C)I" } : Jvm.MethodName) prog_1_method_37_code (2 : Nat) (Option.some Jvm.ClassFile.FieldType.int)) ∈ lw_all := lw_g (lw_at lw_m12 156 rfl) rfl
theorem q2910 : (Jvm.Cond.castable "java/lang/IllegalStateException" "java/lang/IllegalStateException") ∈ lw_tbl := lw_at lw_m12 163 rfl
theorem mv2910 : (Jvm.Cond.castable "java/lang/IllegalStateException" "java/lang/IllegalStateException") ∈ lw_mv := List.mem_filter.mpr ⟨q2910, rfl⟩
theorem q2946 : (Jvm.Cond.methodLink "BanquetVotesLaw" (89 : Nat) ({ cls := "BanquetVotes", name := "read", desc := "()I" } : Jvm.MethodName)) ∈ lw_all := lw_g (lw_at lw_m12 199 rfl) rfl
theorem q2947 : (Jvm.Cond.instanceMethod ({ cls := "BanquetVotes", name := "read", desc := "()I" } : Jvm.MethodName)) ∈ lw_all := lw_g (lw_at lw_m12 200 rfl) rfl
theorem q2948 : (Jvm.Cond.selects "BanquetVotes" ({ cls := "BanquetVotes", name := "read", desc := "()I" } : Jvm.MethodName) ({ cls := "BanquetVotes", name := "read", desc := "()I" } : Jvm.MethodName)) ∈ lw_all := lw_g (lw_at lw_m12 201 rfl) rfl
theorem q2949 : (Jvm.Cond.codeWith ({ cls := "BanquetVotes", name := "read", desc := "()I" } : Jvm.MethodName) prog_1_method_39_code (3 : Nat) (Option.some Jvm.ClassFile.FieldType.int) [((16 : Nat), (43 : Nat), (44 : Nat), (365 : Nat)), ((16 : Nat), (43 : Nat), (61 : Nat), (1 : Nat))]) ∈ lw_all := lw_g (lw_at lw_m12 202 rfl) rfl
theorem q3229 : (Jvm.Cond.methodLink "BanquetVotesLaw" (92 : Nat) ({ cls := "BanquetVotes", name := "errorPosition", desc := "()I" } : Jvm.MethodName)) ∈ lw_all := lw_g (lw_at lw_m14 2 rfl) rfl
theorem q3230 : (Jvm.Cond.instanceMethod ({ cls := "BanquetVotes", name := "errorPosition", desc := "()I" } : Jvm.MethodName)) ∈ lw_all := lw_g (lw_at lw_m14 3 rfl) rfl
theorem q3231 : (Jvm.Cond.selects "BanquetVotes" ({ cls := "BanquetVotes", name := "errorPosition", desc := "()I" } : Jvm.MethodName) ({ cls := "BanquetVotes", name := "errorPosition", desc := "()I" } : Jvm.MethodName)) ∈ lw_all := lw_g (lw_at lw_m14 4 rfl) rfl
theorem q3232 : (Jvm.Cond.code ({ cls := "BanquetVotes", name := "errorPosition", desc := "()I" } : Jvm.MethodName) prog_1_method_40_code (1 : Nat) (Option.some Jvm.ClassFile.FieldType.int)) ∈ lw_all := lw_g (lw_at lw_m14 5 rfl) rfl
theorem q3236 : (Jvm.Cond.methodLink "BanquetVotesLaw" (95 : Nat) ({ cls := "BanquetVotes", name := "refusal", desc := "(Z)I" } : Jvm.MethodName)) ∈ lw_all := lw_g (lw_at lw_m14 9 rfl) rfl
theorem q3237 : (Jvm.Cond.instanceMethod ({ cls := "BanquetVotes", name := "refusal", desc := "(Z)I" } : Jvm.MethodName)) ∈ lw_all := lw_g (lw_at lw_m14 10 rfl) rfl
theorem q3238 : (Jvm.Cond.selects "BanquetVotes" ({ cls := "BanquetVotes", name := "refusal", desc := "(Z)I" } : Jvm.MethodName) ({ cls := "BanquetVotes", name := "refusal", desc := "(Z)I" } : Jvm.MethodName)) ∈ lw_all := lw_g (lw_at lw_m14 11 rfl) rfl
theorem q3239 : (Jvm.Cond.code ({ cls := "BanquetVotes", name := "refusal", desc := "(Z)I" } : Jvm.MethodName) prog_1_method_41_code (2 : Nat) (Option.some Jvm.ClassFile.FieldType.int)) ∈ lw_all := lw_g (lw_at lw_m14 12 rfl) rfl
theorem q3243 : (Jvm.Cond.methodLink "BanquetVotesLaw" (99 : Nat) ({ cls := "BanquetVotes", name := "describe", desc := "(I)I" } : Jvm.MethodName)) ∈ lw_all := lw_g (lw_at lw_m14 16 rfl) rfl
theorem q3244 : (Jvm.Cond.instanceMethod ({ cls := "BanquetVotes", name := "describe", desc := "(I)I" } : Jvm.MethodName)) ∈ lw_all := lw_g (lw_at lw_m14 17 rfl) rfl
theorem q3245 : (Jvm.Cond.selects "BanquetVotes" ({ cls := "BanquetVotes", name := "describe", desc := "(I)I" } : Jvm.MethodName) ({ cls := "BanquetVotes", name := "describe", desc := "(I)I" } : Jvm.MethodName)) ∈ lw_all := lw_g (lw_at lw_m14 18 rfl) rfl
theorem q3246 : (Jvm.Cond.code ({ cls := "BanquetVotes", name := "describe", desc := "(I)I" } : Jvm.MethodName) prog_1_method_42_code (6 : Nat) (Option.some Jvm.ClassFile.FieldType.int)) ∈ lw_all := lw_g (lw_at lw_m14 19 rfl) rfl
theorem q3276 : (Jvm.Cond.methodLink "BanquetVotesLaw" (102 : Nat) ({ cls := "BanquetVotes", name := "written", desc := "(I)C" } : Jvm.MethodName)) ∈ lw_all := lw_g (lw_at lw_m14 49 rfl) rfl
theorem q3277 : (Jvm.Cond.instanceMethod ({ cls := "BanquetVotes", name := "written", desc := "(I)C" } : Jvm.MethodName)) ∈ lw_all := lw_g (lw_at lw_m14 50 rfl) rfl
theorem q3278 : (Jvm.Cond.selects "BanquetVotes" ({ cls := "BanquetVotes", name := "written", desc := "(I)C" } : Jvm.MethodName) ({ cls := "BanquetVotes", name := "written", desc := "(I)C" } : Jvm.MethodName)) ∈ lw_all := lw_g (lw_at lw_m14 51 rfl) rfl
theorem q3279 : (Jvm.Cond.code ({ cls := "BanquetVotes", name := "written", desc := "(I)C" } : Jvm.MethodName) prog_1_method_43_code (2 : Nat) (Option.some Jvm.ClassFile.FieldType.char)) ∈ lw_all := lw_g (lw_at lw_m14 52 rfl) rfl
theorem q3283 : (Jvm.Cond.methodLink "BanquetVotesLaw" (106 : Nat) ({ cls := "BanquetVotes", name := "account", desc := "(I)I" } : Jvm.MethodName)) ∈ lw_all := lw_g (lw_at lw_m14 56 rfl) rfl
theorem q3284 : (Jvm.Cond.instanceMethod ({ cls := "BanquetVotes", name := "account", desc := "(I)I" } : Jvm.MethodName)) ∈ lw_all := lw_g (lw_at lw_m14 57 rfl) rfl
theorem q3285 : (Jvm.Cond.selects "BanquetVotes" ({ cls := "BanquetVotes", name := "account", desc := "(I)I" } : Jvm.MethodName) ({ cls := "BanquetVotes", name := "account", desc := "(I)I" } : Jvm.MethodName)) ∈ lw_all := lw_g (lw_at lw_m14 58 rfl) rfl
theorem q3286 : (Jvm.Cond.code ({ cls := "BanquetVotes", name := "account", desc := "(I)I" } : Jvm.MethodName) prog_1_method_44_code (2 : Nat) (Option.some Jvm.ClassFile.FieldType.int)) ∈ lw_all := lw_g (lw_at lw_m14 59 rfl) rfl
theorem q3308 : (Jvm.Cond.classLink "BanquetVotesLaw" (113 : Nat) "java/lang/ArithmeticException") ∈ lw_all := lw_g (lw_at lw_m14 81 rfl) rfl
theorem q3320 : (Jvm.Cond.castable "java/lang/ArithmeticException" "java/lang/ArithmeticException") ∈ lw_tbl := lw_at lw_m14 93 rfl
theorem mv3320 : (Jvm.Cond.castable "java/lang/ArithmeticException" "java/lang/ArithmeticException") ∈ lw_mv := List.mem_filter.mpr ⟨q3320, rfl⟩
theorem q3322 : (Jvm.Cond.methodLink "BanquetVotesLaw" (109 : Nat) ({ cls := "BanquetVotes", name := "meanWait", desc := "()D" } : Jvm.MethodName)) ∈ lw_all := lw_g (lw_at lw_m14 95 rfl) rfl
theorem q3323 : (Jvm.Cond.instanceMethod ({ cls := "BanquetVotes", name := "meanWait", desc := "()D" } : Jvm.MethodName)) ∈ lw_all := lw_g (lw_at lw_m14 96 rfl) rfl
theorem q3324 : (Jvm.Cond.selects "BanquetVotes" ({ cls := "BanquetVotes", name := "meanWait", desc := "()D" } : Jvm.MethodName) ({ cls := "BanquetVotes", name := "meanWait", desc := "()D" } : Jvm.MethodName)) ∈ lw_all := lw_g (lw_at lw_m14 97 rfl) rfl
theorem q3325 : (Jvm.Cond.code ({ cls := "BanquetVotes", name := "meanWait", desc := "()D" } : Jvm.MethodName) prog_1_method_45_code (6 : Nat) (Option.some Jvm.ClassFile.FieldType.double)) ∈ lw_all := lw_g (lw_at lw_m14 98 rfl) rfl
theorem q3336 : (Jvm.Cond.methodLink "BanquetVotesLaw" (115 : Nat) ({ cls := "BanquetVotes", name := "servedShare", desc := "()F" } : Jvm.MethodName)) ∈ lw_all := lw_g (lw_at lw_m14 109 rfl) rfl
theorem q3337 : (Jvm.Cond.instanceMethod ({ cls := "BanquetVotes", name := "servedShare", desc := "()F" } : Jvm.MethodName)) ∈ lw_all := lw_g (lw_at lw_m14 110 rfl) rfl
theorem q3338 : (Jvm.Cond.selects "BanquetVotes" ({ cls := "BanquetVotes", name := "servedShare", desc := "()F" } : Jvm.MethodName) ({ cls := "BanquetVotes", name := "servedShare", desc := "()F" } : Jvm.MethodName)) ∈ lw_all := lw_g (lw_at lw_m14 111 rfl) rfl
theorem q3339 : (Jvm.Cond.code ({ cls := "BanquetVotes", name := "servedShare", desc := "()F" } : Jvm.MethodName) prog_1_method_46_code (1 : Nat) (Option.some Jvm.ClassFile.FieldType.float)) ∈ lw_all := lw_g (lw_at lw_m14 112 rfl) rfl
theorem q3344 : (Jvm.Cond.methodLink "BanquetVotesLaw" (119 : Nat) ({ cls := "BanquetVotes", name := "undo", desc := "()I" } : Jvm.MethodName)) ∈ lw_all := lw_g (lw_at lw_m14 117 rfl) rfl
theorem q3345 : (Jvm.Cond.instanceMethod ({ cls := "BanquetVotes", name := "undo", desc := "()I" } : Jvm.MethodName)) ∈ lw_all := lw_g (lw_at lw_m14 118 rfl) rfl
theorem q3346 : (Jvm.Cond.selects "BanquetVotes" ({ cls := "BanquetVotes", name := "undo", desc := "()I" } : Jvm.MethodName) ({ cls := "BanquetVotes", name := "undo", desc := "()I" } : Jvm.MethodName)) ∈ lw_all := lw_g (lw_at lw_m14 119 rfl) rfl
theorem q3347 : (Jvm.Cond.code ({ cls := "BanquetVotes", name := "undo", desc := "()I" } : Jvm.MethodName) prog_1_method_47_code (1 : Nat) (Option.some Jvm.ClassFile.FieldType.int)) ∈ lw_all := lw_g (lw_at lw_m14 120 rfl) rfl
theorem q3365 : (Jvm.Cond.methodLink "BanquetVotesLaw" (122 : Nat) ({ cls := "BanquetVotes", name := "restore", desc := "()I" } : Jvm.MethodName)) ∈ lw_all := lw_g (lw_at lw_m14 138 rfl) rfl
theorem q3366 : (Jvm.Cond.instanceMethod ({ cls := "BanquetVotes", name := "restore", desc := "()I" } : Jvm.MethodName)) ∈ lw_all := lw_g (lw_at lw_m14 139 rfl) rfl
theorem q3367 : (Jvm.Cond.selects "BanquetVotes" ({ cls := "BanquetVotes", name := "restore", desc := "()I" } : Jvm.MethodName) ({ cls := "BanquetVotes", name := "restore", desc := "()I" } : Jvm.MethodName)) ∈ lw_all := lw_g (lw_at lw_m14 140 rfl) rfl
theorem q3368 : (Jvm.Cond.code ({ cls := "BanquetVotes", name := "restore", desc := "()I" } : Jvm.MethodName) prog_1_method_49_code (1 : Nat) (Option.some Jvm.ClassFile.FieldType.int)) ∈ lw_all := lw_g (lw_at lw_m14 141 rfl) rfl
abbrev ck_X0_cook : CK := ("BanquetVotesLaw", method_3_code, 4, (some .int), "cook", [(0, 9, 12, 13), (0, 9, 15, 15)], 11)
def f_X0_cook (γ : GP) (x0 : Nat) (x1 : Int32) (x2 : Nat) (g : AH) : Option (Int32 × AH) := bXI ((if hK g x0 = 1 then f_X1_cook γ x0 x1 g else none)) (fun e3 g4 => (if hK g4 e3 = 9 then (some ((1 : Int32), g4)) else (if hK g4 e3 = 25 then (some ((2 : Int32), g4)) else none))) fun v2 g1 => pJ γ g1 x2 (0 : Int32) (v2).toInt64 fun g5 => (some ((0 : Int32), g5))
theorem t_X0_cook (γ : GP) (l : Launch) (hl : l.stackTraces = false) (x0 : Nat) (x1 : Int32) (x2 : Nat) (g : AH) : TrM ρI γ l ⟨"BanquetVotesLaw", "cook", "(LBanquetVotes;I[J)I"⟩ (wsW_ ⟨"BanquetVotesLaw", "cook", "(LBanquetVotes;I[J)I"⟩ method_3_code 4 (some .int) [(0, 9, 12, 13), (0, 9, 15, 15)]) 11 [.ref x0, .int x1, .ref x2] g (f_X0_cook γ x0 x1 x2 g) := by
  refine TrM_ofH (by decide) (Nat.le_of_ble_eq_true rfl) ?_
  unfold f_X0_cook
  change AW ρI γ l ck_X0_cook g 0 [(0, .ref x0), (1, .int x1), (2, .ref x2)] [] g _
  refine r_aload_n (pc := 0) dX0_cook_0 rfl 2 rfl ?_
  refine r_iconst (v := (0 : Int32)) (pc := 1) dX0_cook_1 (by decide) ?_
  refine r_aload_n (pc := 2) dX0_cook_2 rfl 0 rfl ?_
  refine r_iload_n (pc := 3) dX0_cook_3 rfl 1 rfl ?_
  refine r_cXI (pc := 4) (rest := [.int (0 : Int32), .ref x2]) (RunOK_chk (fun h => run_VX (n := 1) (c9 := 1) (As := [.int x1]) (rest := [.int (0 : Int32), .ref x2]) (t_X1_cook γ l hl x0 x1 g) dX0_cook_4 q1203 q1204 q1205 q108 q1206 (by decide +kernel) rfl h ⟨rfl, by decide, by decide⟩ (Nat.le_of_ble_eq_true rfl) (Nat.le_of_ble_eq_true rfl) rfl (Nat.le_of_ble_eq_true rfl))) (fun e3 g4 => ?_) (fun v2 g1 => ?_)
  · skip
    refine AX_if (fun hc => ?_) (fun _ => ?_)
    · refine x_catch [] (0, 9, 12, 13) [(0, 9, 15, 15)] rfl hc ((fun _ h => absurd h List.not_mem_nil)) (by decide) (by decide) q1201 mv645 ?_
      refine r_astore_n (pc := 12) dX0_cook_12 rfl (Nat.le_of_ble_eq_true rfl) rfl ?_
      refine r_iconst (v := (1 : Int32)) (pc := 13) dX0_cook_13 (by decide) ?_
      exact r_iret (pc := 14) dX0_cook_14 rfl
    · skip
      refine AX_if (fun hc => ?_) (fun _ => ?_)
      · refine x_catch [((0, 9, 12, 13), "java/lang/IllegalArgumentException")] (0, 9, 15, 15) [] rfl hc (List.forall_mem_cons.mpr ⟨⟨by decide, q1201, by decide +kernel⟩, (fun _ h => absurd h List.not_mem_nil)⟩) (by decide) (by decide) q1202 mv1959 ?_
        refine r_astore_n (pc := 15) dX0_cook_15 rfl (Nat.le_of_ble_eq_true rfl) rfl ?_
        refine r_iconst (v := (2 : Int32)) (pc := 16) dX0_cook_16 (by decide) ?_
        exact r_iret (pc := 17) dX0_cook_17 rfl
      · skip
        exact fun r h => by cases h
  · skip
    refine r_i2l (pc := 7) dX0_cook_7 ?_
    refine r_last (pc := 8) dX0_cook_8 (fun g5 => ?_)
    refine r_goto (tgt := 18) (pc := 9) dX0_cook_9 (by decide) ?_
    refine r_iconst (v := (0 : Int32)) (pc := 18) dX0_cook_18 (by decide) ?_
    exact r_iret (pc := 19) dX0_cook_19 rfl
abbrev ck_X0_stock : CK := ("BanquetVotesLaw", method_4_code, 6, (some .int), "stock", [(0, 12, 15, 21), (0, 12, 19, 13), (0, 12, 23, 15)], 11)
def f_X0_stock (γ : GP) (x0 : Nat) (x1 : Int32) (x2 : Int32) (x3 : Int32) (x4 : Nat) (g : AH) : Option (Int32 × AH) := bXI ((if hK g x0 = 1 then f_X1_stock γ x0 x1 x2 x3 g else none)) (fun e3 g4 => (if hK g4 e3 = 9 then (some ((2 : Int32), g4)) else (if hK g4 e3 = 11 then (some ((1 : Int32), g4)) else (if hK g4 e3 = 25 then (some ((3 : Int32), g4)) else none)))) fun v2 g1 => pJ γ g1 x4 (0 : Int32) (v2).toInt64 fun g5 => (some ((0 : Int32), g5))
theorem t_X0_stock (γ : GP) (l : Launch) (hl : l.stackTraces = false) (x0 : Nat) (x1 : Int32) (x2 : Int32) (x3 : Int32) (x4 : Nat) (g : AH) : TrM ρI γ l ⟨"BanquetVotesLaw", "stock", "(LBanquetVotes;III[J)I"⟩ (wsW_ ⟨"BanquetVotesLaw", "stock", "(LBanquetVotes;III[J)I"⟩ method_4_code 6 (some .int) [(0, 12, 15, 21), (0, 12, 19, 13), (0, 12, 23, 15)]) 11 [.ref x0, .int x1, .int x2, .int x3, .ref x4] g (f_X0_stock γ x0 x1 x2 x3 x4 g) := by
  refine TrM_ofH (by decide) (Nat.le_of_ble_eq_true rfl) ?_
  unfold f_X0_stock
  change AW ρI γ l ck_X0_stock g 0 [(0, .ref x0), (1, .int x1), (2, .int x2), (3, .int x3), (4, .ref x4)] [] g _
  refine r_aload (pc := 0) dX0_stock_0 4 rfl ?_
  refine r_iconst (v := (0 : Int32)) (pc := 2) dX0_stock_2 (by decide) ?_
  refine r_aload_n (pc := 3) dX0_stock_3 rfl 0 rfl ?_
  refine r_iload_n (pc := 4) dX0_stock_4 rfl 1 rfl ?_
  refine r_iload_n (pc := 5) dX0_stock_5 rfl 2 rfl ?_
  refine r_iload_n (pc := 6) dX0_stock_6 rfl 3 rfl ?_
  refine r_cXI (pc := 7) (rest := [.int (0 : Int32), .ref x4]) (RunOK_chk (fun h => run_VX (n := 3) (c9 := 1) (As := [.int x1, .int x2, .int x3]) (rest := [.int (0 : Int32), .ref x4]) (t_X1_stock γ l hl x0 x1 x2 x3 g) dX0_stock_7 q1991 q1992 q1993 q108 q1994 (by decide +kernel) rfl h ⟨rfl, by decide, by decide⟩ (Nat.le_of_ble_eq_true rfl) (Nat.le_of_ble_eq_true rfl) rfl (Nat.le_of_ble_eq_true rfl))) (fun e3 g4 => ?_) (fun v2 g1 => ?_)
  · skip
    refine AX_if (fun hc => ?_) (fun _ => ?_)
    · refine x_catch [((0, 12, 15, 21), "java/lang/IndexOutOfBoundsException")] (0, 12, 19, 13) [(0, 12, 23, 15)] rfl hc (List.forall_mem_cons.mpr ⟨⟨by decide, q1975, by decide +kernel⟩, (fun _ h => absurd h List.not_mem_nil)⟩) (by decide) (by decide) q1201 mv645 ?_
      refine r_astore (pc := 19) dX0_stock_19 (Nat.le_of_ble_eq_true rfl) rfl ?_
      refine r_iconst (v := (2 : Int32)) (pc := 21) dX0_stock_21 (by decide) ?_
      exact r_iret (pc := 22) dX0_stock_22 rfl
    · skip
      refine AX_if (fun hc => ?_) (fun _ => ?_)
      · refine x_catch [] (0, 12, 15, 21) [(0, 12, 19, 13), (0, 12, 23, 15)] rfl hc ((fun _ h => absurd h List.not_mem_nil)) (by decide) (by decide) q1975 mv408 ?_
        refine r_astore (pc := 15) dX0_stock_15 (Nat.le_of_ble_eq_true rfl) rfl ?_
        refine r_iconst (v := (1 : Int32)) (pc := 17) dX0_stock_17 (by decide) ?_
        exact r_iret (pc := 18) dX0_stock_18 rfl
      · skip
        refine AX_if (fun hc => ?_) (fun _ => ?_)
        · refine x_catch [((0, 12, 15, 21), "java/lang/IndexOutOfBoundsException"), ((0, 12, 19, 13), "java/lang/IllegalArgumentException")] (0, 12, 23, 15) [] rfl hc (List.forall_mem_cons.mpr ⟨⟨by decide, q1975, by decide +kernel⟩, List.forall_mem_cons.mpr ⟨⟨by decide, q1201, by decide +kernel⟩, (fun _ h => absurd h List.not_mem_nil)⟩⟩) (by decide) (by decide) q1202 mv1959 ?_
          refine r_astore (pc := 23) dX0_stock_23 (Nat.le_of_ble_eq_true rfl) rfl ?_
          refine r_iconst (v := (3 : Int32)) (pc := 25) dX0_stock_25 (by decide) ?_
          exact r_iret (pc := 26) dX0_stock_26 rfl
        · skip
          exact fun r h => by cases h
  · skip
    refine r_i2l (pc := 10) dX0_stock_10 ?_
    refine r_last (pc := 11) dX0_stock_11 (fun g5 => ?_)
    refine r_goto (tgt := 27) (pc := 12) dX0_stock_12 (by decide) ?_
    refine r_iconst (v := (0 : Int32)) (pc := 27) dX0_stock_27 (by decide) ?_
    exact r_iret (pc := 28) dX0_stock_28 rfl
abbrev ck_X0_cookOf : CK := ("BanquetVotesLaw", method_5_code, 5, (some .int), "cookOf", [(0, 10, 13, 21), (0, 10, 17, 13)], 11)
def f_X0_cookOf (γ : GP) (x0 : Nat) (x1 : Int32) (x2 : Int32) (x3 : Nat) (g : AH) : Option (Int32 × AH) := bXI ((if hK g x0 = 1 then f_X1_cookOf γ x0 x1 x2 g else none)) (fun e3 g4 => (if hK g4 e3 = 9 then (some ((2 : Int32), g4)) else (if hK g4 e3 = 11 then (some ((1 : Int32), g4)) else none))) fun v2 g1 => pJ γ g1 x3 (0 : Int32) (v2).toInt64 fun g5 => (some ((0 : Int32), g5))
theorem t_X0_cookOf (γ : GP) (l : Launch) (hl : l.stackTraces = false) (x0 : Nat) (x1 : Int32) (x2 : Int32) (x3 : Nat) (g : AH) : TrM ρI γ l ⟨"BanquetVotesLaw", "cookOf", "(LBanquetVotes;II[J)I"⟩ (wsW_ ⟨"BanquetVotesLaw", "cookOf", "(LBanquetVotes;II[J)I"⟩ method_5_code 5 (some .int) [(0, 10, 13, 21), (0, 10, 17, 13)]) 11 [.ref x0, .int x1, .int x2, .ref x3] g (f_X0_cookOf γ x0 x1 x2 x3 g) := by
  refine TrM_ofH (by decide) (Nat.le_of_ble_eq_true rfl) ?_
  unfold f_X0_cookOf
  change AW ρI γ l ck_X0_cookOf g 0 [(0, .ref x0), (1, .int x1), (2, .int x2), (3, .ref x3)] [] g _
  refine r_aload_n (pc := 0) dX0_cookOf_0 rfl 3 rfl ?_
  refine r_iconst (v := (0 : Int32)) (pc := 1) dX0_cookOf_1 (by decide) ?_
  refine r_aload_n (pc := 2) dX0_cookOf_2 rfl 0 rfl ?_
  refine r_iload_n (pc := 3) dX0_cookOf_3 rfl 1 rfl ?_
  refine r_iload_n (pc := 4) dX0_cookOf_4 rfl 2 rfl ?_
  refine r_cXI (pc := 5) (rest := [.int (0 : Int32), .ref x3]) (RunOK_chk (fun h => run_V (n := 2) (c9 := 1) (As := [.int x1, .int x2]) (rest := [.int (0 : Int32), .ref x3]) (t_X1_cookOf γ l hl x0 x1 x2 g) dX0_cookOf_5 q2045 q2046 q2047 q108 q2048 (by decide +kernel) rfl h ⟨rfl, by decide, by decide⟩ (Nat.le_of_ble_eq_true rfl) (Nat.le_of_ble_eq_true rfl) rfl (Nat.le_of_ble_eq_true rfl))) (fun e3 g4 => ?_) (fun v2 g1 => ?_)
  · skip
    refine AX_if (fun hc => ?_) (fun _ => ?_)
    · refine x_catch [((0, 10, 13, 21), "java/lang/IndexOutOfBoundsException")] (0, 10, 17, 13) [] rfl hc (List.forall_mem_cons.mpr ⟨⟨by decide, q1975, by decide +kernel⟩, (fun _ h => absurd h List.not_mem_nil)⟩) (by decide) (by decide) q1201 mv645 ?_
      refine r_astore (pc := 17) dX0_cookOf_17 (Nat.le_of_ble_eq_true rfl) rfl ?_
      refine r_iconst (v := (2 : Int32)) (pc := 19) dX0_cookOf_19 (by decide) ?_
      exact r_iret (pc := 20) dX0_cookOf_20 rfl
    · skip
      refine AX_if (fun hc => ?_) (fun _ => ?_)
      · refine x_catch [] (0, 10, 13, 21) [(0, 10, 17, 13)] rfl hc ((fun _ h => absurd h List.not_mem_nil)) (by decide) (by decide) q1975 mv408 ?_
        refine r_astore (pc := 13) dX0_cookOf_13 (Nat.le_of_ble_eq_true rfl) rfl ?_
        refine r_iconst (v := (1 : Int32)) (pc := 15) dX0_cookOf_15 (by decide) ?_
        exact r_iret (pc := 16) dX0_cookOf_16 rfl
      · skip
        exact fun r h => by cases h
  · skip
    refine r_i2l (pc := 8) dX0_cookOf_8 ?_
    refine r_last (pc := 9) dX0_cookOf_9 (fun g5 => ?_)
    refine r_goto (tgt := 21) (pc := 10) dX0_cookOf_10 (by decide) ?_
    refine r_iconst (v := (0 : Int32)) (pc := 21) dX0_cookOf_21 (by decide) ?_
    exact r_iret (pc := 22) dX0_cookOf_22 rfl
abbrev ck_X0_course : CK := ("BanquetVotesLaw", method_6_code, 3, (some .int), "course", [(0, 8, 11, 15)], 11)
def f_X0_course (γ : GP) (x0 : Nat) (x1 : Nat) (g : AH) : Option (Int32 × AH) := bXI ((if hK g x0 = 1 then f_X1_course γ x0 g else none)) (fun e3 g4 => (if hK g4 e3 = 25 then (some ((1 : Int32), g4)) else none)) fun v2 g1 => pJ γ g1 x1 (0 : Int32) (v2).toInt64 fun g5 => (some ((0 : Int32), g5))
theorem t_X0_course (γ : GP) (l : Launch) (hl : l.stackTraces = false) (x0 : Nat) (x1 : Nat) (g : AH) : TrM ρI γ l ⟨"BanquetVotesLaw", "course", "(LBanquetVotes;[J)I"⟩ (wsW_ ⟨"BanquetVotesLaw", "course", "(LBanquetVotes;[J)I"⟩ method_6_code 3 (some .int) [(0, 8, 11, 15)]) 11 [.ref x0, .ref x1] g (f_X0_course γ x0 x1 g) := by
  refine TrM_ofH (by decide) (Nat.le_of_ble_eq_true rfl) ?_
  unfold f_X0_course
  change AW ρI γ l ck_X0_course g 0 [(0, .ref x0), (1, .ref x1)] [] g _
  refine r_aload_n (pc := 0) dX0_course_0 rfl 1 rfl ?_
  refine r_iconst (v := (0 : Int32)) (pc := 1) dX0_course_1 (by decide) ?_
  refine r_aload_n (pc := 2) dX0_course_2 rfl 0 rfl ?_
  refine r_cXI (pc := 3) (rest := [.int (0 : Int32), .ref x1]) (RunOK_chk (fun h => run_VX (n := 0) (c9 := 1) (As := []) (rest := [.int (0 : Int32), .ref x1]) (t_X1_course γ l hl x0 g) dX0_course_3 q2099 q2100 q2101 q108 q2102 (by decide +kernel) rfl h ⟨rfl, by decide, by decide⟩ (Nat.le_of_ble_eq_true rfl) (Nat.le_of_ble_eq_true rfl) rfl (Nat.le_of_ble_eq_true rfl))) (fun e3 g4 => ?_) (fun v2 g1 => ?_)
  · skip
    refine AX_if (fun hc => ?_) (fun _ => ?_)
    · refine x_catch [] (0, 8, 11, 15) [] rfl hc ((fun _ h => absurd h List.not_mem_nil)) (by decide) (by decide) q1202 mv1959 ?_
      refine r_astore_n (pc := 11) dX0_course_11 rfl (Nat.le_of_ble_eq_true rfl) rfl ?_
      refine r_iconst (v := (1 : Int32)) (pc := 12) dX0_course_12 (by decide) ?_
      exact r_iret (pc := 13) dX0_course_13 rfl
    · skip
      exact fun r h => by cases h
  · skip
    refine r_i2l (pc := 6) dX0_course_6 ?_
    refine r_last (pc := 7) dX0_course_7 (fun g5 => ?_)
    refine r_goto (tgt := 14) (pc := 8) dX0_course_8 (by decide) ?_
    refine r_iconst (v := (0 : Int32)) (pc := 14) dX0_course_14 (by decide) ?_
    exact r_iret (pc := 15) dX0_course_15 rfl
abbrev ck_X0_dish : CK := ("BanquetVotesLaw", method_7_code, 7, (some .int), "dish", [(0, 14, 17, 21), (0, 14, 21, 13), (0, 14, 25, 15)], 11)
def f_X0_dish (γ : GP) (x0 : Nat) (x1 : Int32) (x2 : Int32) (x3 : Int32) (x4 : Int32) (x5 : Nat) (g : AH) : Option (Int32 × AH) := bXI ((if hK g x0 = 1 then f_X1_dish γ x0 x1 x2 x3 x4 g else none)) (fun e3 g4 => (if hK g4 e3 = 9 then (some ((2 : Int32), g4)) else (if hK g4 e3 = 11 then (some ((1 : Int32), g4)) else (if hK g4 e3 = 25 then (some ((3 : Int32), g4)) else none)))) fun v2 g1 => pJ γ g1 x5 (0 : Int32) (v2).toInt64 fun g5 => (some ((0 : Int32), g5))
theorem t_X0_dish (γ : GP) (l : Launch) (hl : l.stackTraces = false) (x0 : Nat) (x1 : Int32) (x2 : Int32) (x3 : Int32) (x4 : Int32) (x5 : Nat) (g : AH) : TrM ρI γ l ⟨"BanquetVotesLaw", "dish", "(LBanquetVotes;IIII[J)I"⟩ (wsW_ ⟨"BanquetVotesLaw", "dish", "(LBanquetVotes;IIII[J)I"⟩ method_7_code 7 (some .int) [(0, 14, 17, 21), (0, 14, 21, 13), (0, 14, 25, 15)]) 11 [.ref x0, .int x1, .int x2, .int x3, .int x4, .ref x5] g (f_X0_dish γ x0 x1 x2 x3 x4 x5 g) := by
  refine TrM_ofH (by decide) (Nat.le_of_ble_eq_true rfl) ?_
  unfold f_X0_dish
  change AW ρI γ l ck_X0_dish g 0 [(0, .ref x0), (1, .int x1), (2, .int x2), (3, .int x3), (4, .int x4), (5, .ref x5)] [] g _
  refine r_aload (pc := 0) dX0_dish_0 5 rfl ?_
  refine r_iconst (v := (0 : Int32)) (pc := 2) dX0_dish_2 (by decide) ?_
  refine r_aload_n (pc := 3) dX0_dish_3 rfl 0 rfl ?_
  refine r_iload_n (pc := 4) dX0_dish_4 rfl 1 rfl ?_
  refine r_iload_n (pc := 5) dX0_dish_5 rfl 2 rfl ?_
  refine r_iload_n (pc := 6) dX0_dish_6 rfl 3 rfl ?_
  refine r_iload (pc := 7) dX0_dish_7 4 rfl ?_
  refine r_cXI (pc := 9) (rest := [.int (0 : Int32), .ref x5]) (RunOK_chk (fun h => run_VX (n := 4) (c9 := 1) (As := [.int x1, .int x2, .int x3, .int x4]) (rest := [.int (0 : Int32), .ref x5]) (t_X1_dish γ l hl x0 x1 x2 x3 x4 g) dX0_dish_9 q2111 q2112 q2113 q108 q2114 (by decide +kernel) rfl h ⟨rfl, by decide, by decide⟩ (Nat.le_of_ble_eq_true rfl) (Nat.le_of_ble_eq_true rfl) rfl (Nat.le_of_ble_eq_true rfl))) (fun e3 g4 => ?_) (fun v2 g1 => ?_)
  · skip
    refine AX_if (fun hc => ?_) (fun _ => ?_)
    · refine x_catch [((0, 14, 17, 21), "java/lang/IndexOutOfBoundsException")] (0, 14, 21, 13) [(0, 14, 25, 15)] rfl hc (List.forall_mem_cons.mpr ⟨⟨by decide, q1975, by decide +kernel⟩, (fun _ h => absurd h List.not_mem_nil)⟩) (by decide) (by decide) q1201 mv645 ?_
      refine r_astore (pc := 21) dX0_dish_21 (Nat.le_of_ble_eq_true rfl) rfl ?_
      refine r_iconst (v := (2 : Int32)) (pc := 23) dX0_dish_23 (by decide) ?_
      exact r_iret (pc := 24) dX0_dish_24 rfl
    · skip
      refine AX_if (fun hc => ?_) (fun _ => ?_)
      · refine x_catch [] (0, 14, 17, 21) [(0, 14, 21, 13), (0, 14, 25, 15)] rfl hc ((fun _ h => absurd h List.not_mem_nil)) (by decide) (by decide) q1975 mv408 ?_
        refine r_astore (pc := 17) dX0_dish_17 (Nat.le_of_ble_eq_true rfl) rfl ?_
        refine r_iconst (v := (1 : Int32)) (pc := 19) dX0_dish_19 (by decide) ?_
        exact r_iret (pc := 20) dX0_dish_20 rfl
      · skip
        refine AX_if (fun hc => ?_) (fun _ => ?_)
        · refine x_catch [((0, 14, 17, 21), "java/lang/IndexOutOfBoundsException"), ((0, 14, 21, 13), "java/lang/IllegalArgumentException")] (0, 14, 25, 15) [] rfl hc (List.forall_mem_cons.mpr ⟨⟨by decide, q1975, by decide +kernel⟩, List.forall_mem_cons.mpr ⟨⟨by decide, q1201, by decide +kernel⟩, (fun _ h => absurd h List.not_mem_nil)⟩⟩) (by decide) (by decide) q1202 mv1959 ?_
          refine r_astore (pc := 25) dX0_dish_25 (Nat.le_of_ble_eq_true rfl) rfl ?_
          refine r_iconst (v := (3 : Int32)) (pc := 27) dX0_dish_27 (by decide) ?_
          exact r_iret (pc := 28) dX0_dish_28 rfl
        · skip
          exact fun r h => by cases h
  · skip
    refine r_i2l (pc := 12) dX0_dish_12 ?_
    refine r_last (pc := 13) dX0_dish_13 (fun g5 => ?_)
    refine r_goto (tgt := 29) (pc := 14) dX0_dish_14 (by decide) ?_
    refine r_iconst (v := (0 : Int32)) (pc := 29) dX0_dish_29 (by decide) ?_
    exact r_iret (pc := 30) dX0_dish_30 rfl
abbrev ck_X0_courseOf : CK := ("BanquetVotesLaw", method_8_code, 5, (some .int), "courseOf", [(0, 10, 13, 21), (0, 10, 17, 13)], 11)
def f_X0_courseOf (γ : GP) (x0 : Nat) (x1 : Int32) (x2 : Int32) (x3 : Nat) (g : AH) : Option (Int32 × AH) := bXI ((if hK g x0 = 1 then f_X1_courseOf γ x0 x1 x2 g else none)) (fun e3 g4 => (if hK g4 e3 = 9 then (some ((2 : Int32), g4)) else (if hK g4 e3 = 11 then (some ((1 : Int32), g4)) else none))) fun v2 g1 => pJ γ g1 x3 (0 : Int32) (v2).toInt64 fun g5 => (some ((0 : Int32), g5))
theorem t_X0_courseOf (γ : GP) (l : Launch) (hl : l.stackTraces = false) (x0 : Nat) (x1 : Int32) (x2 : Int32) (x3 : Nat) (g : AH) : TrM ρI γ l ⟨"BanquetVotesLaw", "courseOf", "(LBanquetVotes;II[J)I"⟩ (wsW_ ⟨"BanquetVotesLaw", "courseOf", "(LBanquetVotes;II[J)I"⟩ method_8_code 5 (some .int) [(0, 10, 13, 21), (0, 10, 17, 13)]) 11 [.ref x0, .int x1, .int x2, .ref x3] g (f_X0_courseOf γ x0 x1 x2 x3 g) := by
  refine TrM_ofH (by decide) (Nat.le_of_ble_eq_true rfl) ?_
  unfold f_X0_courseOf
  change AW ρI γ l ck_X0_courseOf g 0 [(0, .ref x0), (1, .int x1), (2, .int x2), (3, .ref x3)] [] g _
  refine r_aload_n (pc := 0) dX0_courseOf_0 rfl 3 rfl ?_
  refine r_iconst (v := (0 : Int32)) (pc := 1) dX0_courseOf_1 (by decide) ?_
  refine r_aload_n (pc := 2) dX0_courseOf_2 rfl 0 rfl ?_
  refine r_iload_n (pc := 3) dX0_courseOf_3 rfl 1 rfl ?_
  refine r_iload_n (pc := 4) dX0_courseOf_4 rfl 2 rfl ?_
  refine r_cXI (pc := 5) (rest := [.int (0 : Int32), .ref x3]) (RunOK_chk (fun h => run_V (n := 2) (c9 := 1) (As := [.int x1, .int x2]) (rest := [.int (0 : Int32), .ref x3]) (t_X1_courseOf γ l hl x0 x1 x2 g) dX0_courseOf_5 q2151 q2152 q2153 q108 q2154 (by decide +kernel) rfl h ⟨rfl, by decide, by decide⟩ (Nat.le_of_ble_eq_true rfl) (Nat.le_of_ble_eq_true rfl) rfl (Nat.le_of_ble_eq_true rfl))) (fun e3 g4 => ?_) (fun v2 g1 => ?_)
  · skip
    refine AX_if (fun hc => ?_) (fun _ => ?_)
    · refine x_catch [((0, 10, 13, 21), "java/lang/IndexOutOfBoundsException")] (0, 10, 17, 13) [] rfl hc (List.forall_mem_cons.mpr ⟨⟨by decide, q1975, by decide +kernel⟩, (fun _ h => absurd h List.not_mem_nil)⟩) (by decide) (by decide) q1201 mv645 ?_
      refine r_astore (pc := 17) dX0_courseOf_17 (Nat.le_of_ble_eq_true rfl) rfl ?_
      refine r_iconst (v := (2 : Int32)) (pc := 19) dX0_courseOf_19 (by decide) ?_
      exact r_iret (pc := 20) dX0_courseOf_20 rfl
    · skip
      refine AX_if (fun hc => ?_) (fun _ => ?_)
      · refine x_catch [] (0, 10, 13, 21) [(0, 10, 17, 13)] rfl hc ((fun _ h => absurd h List.not_mem_nil)) (by decide) (by decide) q1975 mv408 ?_
        refine r_astore (pc := 13) dX0_courseOf_13 (Nat.le_of_ble_eq_true rfl) rfl ?_
        refine r_iconst (v := (1 : Int32)) (pc := 15) dX0_courseOf_15 (by decide) ?_
        exact r_iret (pc := 16) dX0_courseOf_16 rfl
      · skip
        exact fun r h => by cases h
  · skip
    refine r_i2l (pc := 8) dX0_courseOf_8 ?_
    refine r_last (pc := 9) dX0_courseOf_9 (fun g5 => ?_)
    refine r_goto (tgt := 21) (pc := 10) dX0_courseOf_10 (by decide) ?_
    refine r_iconst (v := (0 : Int32)) (pc := 21) dX0_courseOf_21 (by decide) ?_
    exact r_iret (pc := 22) dX0_courseOf_22 rfl
abbrev ck_X0_dishOf : CK := ("BanquetVotesLaw", method_9_code, 6, (some .int), "dishOf", [(0, 12, 15, 21), (0, 12, 19, 13), (0, 12, 23, 41)], 11)
def f_X0_dishOf (γ : GP) (x0 : Nat) (x1 : Int32) (x2 : Int32) (x3 : Int32) (x4 : Nat) (g : AH) : Option (Int32 × AH) := bXI ((if hK g x0 = 1 then f_X1_dishOf γ x0 x1 x2 x3 g else none)) (fun e3 g4 => (if hK g4 e3 = 9 then (some ((2 : Int32), g4)) else (if hK g4 e3 = 11 then (some ((1 : Int32), g4)) else (if hK g4 e3 = 14 then (some ((3 : Int32), g4)) else none)))) fun v2 g1 => pJ γ g1 x4 (0 : Int32) (v2).toInt64 fun g5 => (some ((0 : Int32), g5))
theorem t_X0_dishOf (γ : GP) (l : Launch) (hl : l.stackTraces = false) (x0 : Nat) (x1 : Int32) (x2 : Int32) (x3 : Int32) (x4 : Nat) (g : AH) : TrM ρI γ l ⟨"BanquetVotesLaw", "dishOf", "(LBanquetVotes;III[J)I"⟩ (wsW_ ⟨"BanquetVotesLaw", "dishOf", "(LBanquetVotes;III[J)I"⟩ method_9_code 6 (some .int) [(0, 12, 15, 21), (0, 12, 19, 13), (0, 12, 23, 41)]) 11 [.ref x0, .int x1, .int x2, .int x3, .ref x4] g (f_X0_dishOf γ x0 x1 x2 x3 x4 g) := by
  refine TrM_ofH (by decide) (Nat.le_of_ble_eq_true rfl) ?_
  unfold f_X0_dishOf
  change AW ρI γ l ck_X0_dishOf g 0 [(0, .ref x0), (1, .int x1), (2, .int x2), (3, .int x3), (4, .ref x4)] [] g _
  refine r_aload (pc := 0) dX0_dishOf_0 4 rfl ?_
  refine r_iconst (v := (0 : Int32)) (pc := 2) dX0_dishOf_2 (by decide) ?_
  refine r_aload_n (pc := 3) dX0_dishOf_3 rfl 0 rfl ?_
  refine r_iload_n (pc := 4) dX0_dishOf_4 rfl 1 rfl ?_
  refine r_iload_n (pc := 5) dX0_dishOf_5 rfl 2 rfl ?_
  refine r_iload_n (pc := 6) dX0_dishOf_6 rfl 3 rfl ?_
  refine r_cXI (pc := 7) (rest := [.int (0 : Int32), .ref x4]) (RunOK_chk (fun h => run_V (n := 3) (c9 := 1) (As := [.int x1, .int x2, .int x3]) (rest := [.int (0 : Int32), .ref x4]) (t_X1_dishOf γ l hl x0 x1 x2 x3 g) dX0_dishOf_7 q2177 q2178 q2179 q108 q2180 (by decide +kernel) rfl h ⟨rfl, by decide, by decide⟩ (Nat.le_of_ble_eq_true rfl) (Nat.le_of_ble_eq_true rfl) rfl (Nat.le_of_ble_eq_true rfl))) (fun e3 g4 => ?_) (fun v2 g1 => ?_)
  · skip
    refine AX_if (fun hc => ?_) (fun _ => ?_)
    · refine x_catch [((0, 12, 15, 21), "java/lang/IndexOutOfBoundsException")] (0, 12, 19, 13) [(0, 12, 23, 41)] rfl hc (List.forall_mem_cons.mpr ⟨⟨by decide, q1975, by decide +kernel⟩, (fun _ h => absurd h List.not_mem_nil)⟩) (by decide) (by decide) q1201 mv645 ?_
      refine r_astore (pc := 19) dX0_dishOf_19 (Nat.le_of_ble_eq_true rfl) rfl ?_
      refine r_iconst (v := (2 : Int32)) (pc := 21) dX0_dishOf_21 (by decide) ?_
      exact r_iret (pc := 22) dX0_dishOf_22 rfl
    · skip
      refine AX_if (fun hc => ?_) (fun _ => ?_)
      · refine x_catch [] (0, 12, 15, 21) [(0, 12, 19, 13), (0, 12, 23, 41)] rfl hc ((fun _ h => absurd h List.not_mem_nil)) (by decide) (by decide) q1975 mv408 ?_
        refine r_astore (pc := 15) dX0_dishOf_15 (Nat.le_of_ble_eq_true rfl) rfl ?_
        refine r_iconst (v := (1 : Int32)) (pc := 17) dX0_dishOf_17 (by decide) ?_
        exact r_iret (pc := 18) dX0_dishOf_18 rfl
      · skip
        refine AX_if (fun hc => ?_) (fun _ => ?_)
        · refine x_catch [((0, 12, 15, 21), "java/lang/IndexOutOfBoundsException"), ((0, 12, 19, 13), "java/lang/IllegalArgumentException")] (0, 12, 23, 41) [] rfl hc (List.forall_mem_cons.mpr ⟨⟨by decide, q1975, by decide +kernel⟩, List.forall_mem_cons.mpr ⟨⟨by decide, q1201, by decide +kernel⟩, (fun _ h => absurd h List.not_mem_nil)⟩⟩) (by decide) (by decide) q2176 mv870 ?_
          refine r_astore (pc := 23) dX0_dishOf_23 (Nat.le_of_ble_eq_true rfl) rfl ?_
          refine r_iconst (v := (3 : Int32)) (pc := 25) dX0_dishOf_25 (by decide) ?_
          exact r_iret (pc := 26) dX0_dishOf_26 rfl
        · skip
          exact fun r h => by cases h
  · skip
    refine r_i2l (pc := 10) dX0_dishOf_10 ?_
    refine r_last (pc := 11) dX0_dishOf_11 (fun g5 => ?_)
    refine r_goto (tgt := 27) (pc := 12) dX0_dishOf_12 (by decide) ?_
    refine r_iconst (v := (0 : Int32)) (pc := 27) dX0_dishOf_27 (by decide) ?_
    exact r_iret (pc := 28) dX0_dishOf_28 rfl
abbrev ck_X0_has : CK := ("BanquetVotesLaw", method_10_code, 6, (some .int), "has", [(0, 12, 15, 21), (0, 12, 19, 13)], 11)
def f_X0_has (γ : GP) (x0 : Nat) (x1 : Int32) (x2 : Int32) (x3 : Int32) (x4 : Nat) (g : AH) : Option (Int32 × AH) := bXI ((if hK g x0 = 1 then f_X1_has γ x0 x1 x2 x3 g else none)) (fun e3 g4 => (if hK g4 e3 = 9 then (some ((2 : Int32), g4)) else (if hK g4 e3 = 11 then (some ((1 : Int32), g4)) else none))) fun v2 g1 => pJ γ g1 x4 (0 : Int32) (v2).toInt64 fun g5 => (some ((0 : Int32), g5))
theorem t_X0_has (γ : GP) (l : Launch) (hl : l.stackTraces = false) (x0 : Nat) (x1 : Int32) (x2 : Int32) (x3 : Int32) (x4 : Nat) (g : AH) : TrM ρI γ l ⟨"BanquetVotesLaw", "has", "(LBanquetVotes;IIZ[J)I"⟩ (wsW_ ⟨"BanquetVotesLaw", "has", "(LBanquetVotes;IIZ[J)I"⟩ method_10_code 6 (some .int) [(0, 12, 15, 21), (0, 12, 19, 13)]) 11 [.ref x0, .int x1, .int x2, .int x3, .ref x4] g (f_X0_has γ x0 x1 x2 x3 x4 g) := by
  refine TrM_ofH (by decide) (Nat.le_of_ble_eq_true rfl) ?_
  unfold f_X0_has
  change AW ρI γ l ck_X0_has g 0 [(0, .ref x0), (1, .int x1), (2, .int x2), (3, .int x3), (4, .ref x4)] [] g _
  refine r_aload (pc := 0) dX0_has_0 4 rfl ?_
  refine r_iconst (v := (0 : Int32)) (pc := 2) dX0_has_2 (by decide) ?_
  refine r_aload_n (pc := 3) dX0_has_3 rfl 0 rfl ?_
  refine r_iload_n (pc := 4) dX0_has_4 rfl 1 rfl ?_
  refine r_iload_n (pc := 5) dX0_has_5 rfl 2 rfl ?_
  refine r_iload_n (pc := 6) dX0_has_6 rfl 3 rfl ?_
  refine r_cXI (pc := 7) (rest := [.int (0 : Int32), .ref x4]) (RunOK_chk (fun h => run_V (n := 3) (c9 := 1) (As := [.int x1, .int x2, .int x3]) (rest := [.int (0 : Int32), .ref x4]) (t_X1_has γ l hl x0 x1 x2 x3 g) dX0_has_7 q2213 q2214 q2215 q108 q2216 (by decide +kernel) rfl h ⟨rfl, by decide, by decide⟩ (Nat.le_of_ble_eq_true rfl) (Nat.le_of_ble_eq_true rfl) rfl (Nat.le_of_ble_eq_true rfl))) (fun e3 g4 => ?_) (fun v2 g1 => ?_)
  · skip
    refine AX_if (fun hc => ?_) (fun _ => ?_)
    · refine x_catch [((0, 12, 15, 21), "java/lang/IndexOutOfBoundsException")] (0, 12, 19, 13) [] rfl hc (List.forall_mem_cons.mpr ⟨⟨by decide, q1975, by decide +kernel⟩, (fun _ h => absurd h List.not_mem_nil)⟩) (by decide) (by decide) q1201 mv645 ?_
      refine r_astore (pc := 19) dX0_has_19 (Nat.le_of_ble_eq_true rfl) rfl ?_
      refine r_iconst (v := (2 : Int32)) (pc := 21) dX0_has_21 (by decide) ?_
      exact r_iret (pc := 22) dX0_has_22 rfl
    · skip
      refine AX_if (fun hc => ?_) (fun _ => ?_)
      · refine x_catch [] (0, 12, 15, 21) [(0, 12, 19, 13)] rfl hc ((fun _ h => absurd h List.not_mem_nil)) (by decide) (by decide) q1975 mv408 ?_
        refine r_astore (pc := 15) dX0_has_15 (Nat.le_of_ble_eq_true rfl) rfl ?_
        refine r_iconst (v := (1 : Int32)) (pc := 17) dX0_has_17 (by decide) ?_
        exact r_iret (pc := 18) dX0_has_18 rfl
      · skip
        exact fun r h => by cases h
  · skip
    refine r_i2l (pc := 10) dX0_has_10 ?_
    refine r_last (pc := 11) dX0_has_11 (fun g5 => ?_)
    refine r_goto (tgt := 23) (pc := 12) dX0_has_12 (by decide) ?_
    refine r_iconst (v := (0 : Int32)) (pc := 23) dX0_has_23 (by decide) ?_
    exact r_iret (pc := 24) dX0_has_24 rfl
abbrev ck_X0_freeAgain : CK := ("BanquetVotesLaw", method_11_code, 5, (some .int), "freeAgain", [(0, 10, 13, 21), (0, 10, 17, 13)], 11)
def f_X0_freeAgain (γ : GP) (x0 : Nat) (x1 : Int32) (x2 : Int32) (x3 : Nat) (g : AH) : Option (Int32 × AH) := bXI ((if hK g x0 = 1 then f_X1_freeAgain γ x0 x1 x2 g else none)) (fun e3 g4 => (if hK g4 e3 = 9 then (some ((2 : Int32), g4)) else (if hK g4 e3 = 11 then (some ((1 : Int32), g4)) else none))) fun v2 g1 => pJ γ g1 x3 (0 : Int32) (v2).toInt64 fun g5 => (some ((0 : Int32), g5))
theorem t_X0_freeAgain (γ : GP) (l : Launch) (hl : l.stackTraces = false) (x0 : Nat) (x1 : Int32) (x2 : Int32) (x3 : Nat) (g : AH) : TrM ρI γ l ⟨"BanquetVotesLaw", "freeAgain", "(LBanquetVotes;II[J)I"⟩ (wsW_ ⟨"BanquetVotesLaw", "freeAgain", "(LBanquetVotes;II[J)I"⟩ method_11_code 5 (some .int) [(0, 10, 13, 21), (0, 10, 17, 13)]) 11 [.ref x0, .int x1, .int x2, .ref x3] g (f_X0_freeAgain γ x0 x1 x2 x3 g) := by
  refine TrM_ofH (by decide) (Nat.le_of_ble_eq_true rfl) ?_
  unfold f_X0_freeAgain
  change AW ρI γ l ck_X0_freeAgain g 0 [(0, .ref x0), (1, .int x1), (2, .int x2), (3, .ref x3)] [] g _
  refine r_aload_n (pc := 0) dX0_freeAgain_0 rfl 3 rfl ?_
  refine r_iconst (v := (0 : Int32)) (pc := 1) dX0_freeAgain_1 (by decide) ?_
  refine r_aload_n (pc := 2) dX0_freeAgain_2 rfl 0 rfl ?_
  refine r_iload_n (pc := 3) dX0_freeAgain_3 rfl 1 rfl ?_
  refine r_iload_n (pc := 4) dX0_freeAgain_4 rfl 2 rfl ?_
  refine r_cXI (pc := 5) (rest := [.int (0 : Int32), .ref x3]) (RunOK_chk (fun h => run_V (n := 2) (c9 := 1) (As := [.int x1, .int x2]) (rest := [.int (0 : Int32), .ref x3]) (t_X1_freeAgain γ l hl x0 x1 x2 g) dX0_freeAgain_5 q2235 q2236 q2237 q108 q2238 (by decide +kernel) rfl h ⟨rfl, by decide, by decide⟩ (Nat.le_of_ble_eq_true rfl) (Nat.le_of_ble_eq_true rfl) rfl (Nat.le_of_ble_eq_true rfl))) (fun e3 g4 => ?_) (fun v2 g1 => ?_)
  · skip
    refine AX_if (fun hc => ?_) (fun _ => ?_)
    · refine x_catch [((0, 10, 13, 21), "java/lang/IndexOutOfBoundsException")] (0, 10, 17, 13) [] rfl hc (List.forall_mem_cons.mpr ⟨⟨by decide, q1975, by decide +kernel⟩, (fun _ h => absurd h List.not_mem_nil)⟩) (by decide) (by decide) q1201 mv645 ?_
      refine r_astore (pc := 17) dX0_freeAgain_17 (Nat.le_of_ble_eq_true rfl) rfl ?_
      refine r_iconst (v := (2 : Int32)) (pc := 19) dX0_freeAgain_19 (by decide) ?_
      exact r_iret (pc := 20) dX0_freeAgain_20 rfl
    · skip
      refine AX_if (fun hc => ?_) (fun _ => ?_)
      · refine x_catch [] (0, 10, 13, 21) [(0, 10, 17, 13)] rfl hc ((fun _ h => absurd h List.not_mem_nil)) (by decide) (by decide) q1975 mv408 ?_
        refine r_astore (pc := 13) dX0_freeAgain_13 (Nat.le_of_ble_eq_true rfl) rfl ?_
        refine r_iconst (v := (1 : Int32)) (pc := 15) dX0_freeAgain_15 (by decide) ?_
        exact r_iret (pc := 16) dX0_freeAgain_16 rfl
      · skip
        exact fun r h => by cases h
  · skip
    refine r_i2l (pc := 8) dX0_freeAgain_8 ?_
    refine r_last (pc := 9) dX0_freeAgain_9 (fun g5 => ?_)
    refine r_goto (tgt := 21) (pc := 10) dX0_freeAgain_10 (by decide) ?_
    refine r_iconst (v := (0 : Int32)) (pc := 21) dX0_freeAgain_21 (by decide) ?_
    exact r_iret (pc := 22) dX0_freeAgain_22 rfl
abbrev ck_X0_ask : CK := ("BanquetVotesLaw", method_12_code, 4, (some .int), "ask", [(0, 9, 12, 21), (0, 9, 15, 15)], 17)
def f_X0_ask (γ : GP) (x0 : Nat) (x1 : Int32) (x2 : Nat) (g : AH) : Option (Int32 × AH) := bXI ((if hK g x0 = 1 then f_X1_ask γ x0 x1 g else none)) (fun e3 g4 => (if hK g4 e3 = 11 then (some ((1 : Int32), g4)) else (if hK g4 e3 = 25 then (some ((2 : Int32), g4)) else none))) fun v2 g1 => pJ γ g1 x2 (0 : Int32) (v2).toInt64 fun g5 => (some ((0 : Int32), g5))
theorem t_X0_ask (γ : GP) (l : Launch) (hl : l.stackTraces = false) (x0 : Nat) (x1 : Int32) (x2 : Nat) (g : AH) : TrM ρI γ l ⟨"BanquetVotesLaw", "ask", "(LBanquetVotes;I[J)I"⟩ (wsW_ ⟨"BanquetVotesLaw", "ask", "(LBanquetVotes;I[J)I"⟩ method_12_code 4 (some .int) [(0, 9, 12, 21), (0, 9, 15, 15)]) 17 [.ref x0, .int x1, .ref x2] g (f_X0_ask γ x0 x1 x2 g) := by
  refine TrM_ofH (by decide) (Nat.le_of_ble_eq_true rfl) ?_
  unfold f_X0_ask
  change AW ρI γ l ck_X0_ask g 0 [(0, .ref x0), (1, .int x1), (2, .ref x2)] [] g _
  refine r_aload_n (pc := 0) dX0_ask_0 rfl 2 rfl ?_
  refine r_iconst (v := (0 : Int32)) (pc := 1) dX0_ask_1 (by decide) ?_
  refine r_aload_n (pc := 2) dX0_ask_2 rfl 0 rfl ?_
  refine r_iload_n (pc := 3) dX0_ask_3 rfl 1 rfl ?_
  refine r_cXI (pc := 4) (rest := [.int (0 : Int32), .ref x2]) (RunOK_chk (fun h => run_V (n := 1) (c9 := 1) (As := [.int x1]) (rest := [.int (0 : Int32), .ref x2]) (t_X1_ask γ l hl x0 x1 g) dX0_ask_4 q2250 q2251 q2252 q108 q2253 (by decide +kernel) rfl h ⟨rfl, by decide, by decide⟩ (Nat.le_of_ble_eq_true rfl) (Nat.le_of_ble_eq_true rfl) rfl (Nat.le_of_ble_eq_true rfl))) (fun e3 g4 => ?_) (fun v2 g1 => ?_)
  · skip
    refine AX_if (fun hc => ?_) (fun _ => ?_)
    · refine x_catch [] (0, 9, 12, 21) [(0, 9, 15, 15)] rfl hc ((fun _ h => absurd h List.not_mem_nil)) (by decide) (by decide) q1975 mv408 ?_
      refine r_astore_n (pc := 12) dX0_ask_12 rfl (Nat.le_of_ble_eq_true rfl) rfl ?_
      refine r_iconst (v := (1 : Int32)) (pc := 13) dX0_ask_13 (by decide) ?_
      exact r_iret (pc := 14) dX0_ask_14 rfl
    · skip
      refine AX_if (fun hc => ?_) (fun _ => ?_)
      · refine x_catch [((0, 9, 12, 21), "java/lang/IndexOutOfBoundsException")] (0, 9, 15, 15) [] rfl hc (List.forall_mem_cons.mpr ⟨⟨by decide, q1975, by decide +kernel⟩, (fun _ h => absurd h List.not_mem_nil)⟩) (by decide) (by decide) q1202 mv1959 ?_
        refine r_astore_n (pc := 15) dX0_ask_15 rfl (Nat.le_of_ble_eq_true rfl) rfl ?_
        refine r_iconst (v := (2 : Int32)) (pc := 16) dX0_ask_16 (by decide) ?_
        exact r_iret (pc := 17) dX0_ask_17 rfl
      · skip
        exact fun r h => by cases h
  · skip
    refine r_i2l (pc := 7) dX0_ask_7 ?_
    refine r_last (pc := 8) dX0_ask_8 (fun g5 => ?_)
    refine r_goto (tgt := 18) (pc := 9) dX0_ask_9 (by decide) ?_
    refine r_iconst (v := (0 : Int32)) (pc := 18) dX0_ask_18 (by decide) ?_
    exact r_iret (pc := 19) dX0_ask_19 rfl
abbrev ck_X0_cancel : CK := ("BanquetVotesLaw", method_13_code, 4, (some .int), "cancel", [(0, 9, 12, 21), (0, 9, 15, 15)], 17)
def f_X0_cancel (γ : GP) (x0 : Nat) (x1 : Int32) (x2 : Nat) (g : AH) : Option (Int32 × AH) := bXI ((if hK g x0 = 1 then f_X1_cancel γ x0 x1 g else none)) (fun e3 g4 => (if hK g4 e3 = 11 then (some ((1 : Int32), g4)) else (if hK g4 e3 = 25 then (some ((2 : Int32), g4)) else none))) fun v2 g1 => pJ γ g1 x2 (0 : Int32) (v2).toInt64 fun g5 => (some ((0 : Int32), g5))
theorem t_X0_cancel (γ : GP) (l : Launch) (hl : l.stackTraces = false) (x0 : Nat) (x1 : Int32) (x2 : Nat) (g : AH) : TrM ρI γ l ⟨"BanquetVotesLaw", "cancel", "(LBanquetVotes;I[J)I"⟩ (wsW_ ⟨"BanquetVotesLaw", "cancel", "(LBanquetVotes;I[J)I"⟩ method_13_code 4 (some .int) [(0, 9, 12, 21), (0, 9, 15, 15)]) 17 [.ref x0, .int x1, .ref x2] g (f_X0_cancel γ x0 x1 x2 g) := by
  refine TrM_ofH (by decide) (Nat.le_of_ble_eq_true rfl) ?_
  unfold f_X0_cancel
  change AW ρI γ l ck_X0_cancel g 0 [(0, .ref x0), (1, .int x1), (2, .ref x2)] [] g _
  refine r_aload_n (pc := 0) dX0_cancel_0 rfl 2 rfl ?_
  refine r_iconst (v := (0 : Int32)) (pc := 1) dX0_cancel_1 (by decide) ?_
  refine r_aload_n (pc := 2) dX0_cancel_2 rfl 0 rfl ?_
  refine r_iload_n (pc := 3) dX0_cancel_3 rfl 1 rfl ?_
  refine r_cXI (pc := 4) (rest := [.int (0 : Int32), .ref x2]) (RunOK_chk (fun h => run_V (n := 1) (c9 := 1) (As := [.int x1]) (rest := [.int (0 : Int32), .ref x2]) (t_X1_cancel γ l hl x0 x1 g) dX0_cancel_4 q2749 q2750 q2751 q108 q2752 (by decide +kernel) rfl h ⟨rfl, by decide, by decide⟩ (Nat.le_of_ble_eq_true rfl) (Nat.le_of_ble_eq_true rfl) rfl (Nat.le_of_ble_eq_true rfl))) (fun e3 g4 => ?_) (fun v2 g1 => ?_)
  · skip
    refine AX_if (fun hc => ?_) (fun _ => ?_)
    · refine x_catch [] (0, 9, 12, 21) [(0, 9, 15, 15)] rfl hc ((fun _ h => absurd h List.not_mem_nil)) (by decide) (by decide) q1975 mv408 ?_
      refine r_astore_n (pc := 12) dX0_cancel_12 rfl (Nat.le_of_ble_eq_true rfl) rfl ?_
      refine r_iconst (v := (1 : Int32)) (pc := 13) dX0_cancel_13 (by decide) ?_
      exact r_iret (pc := 14) dX0_cancel_14 rfl
    · skip
      refine AX_if (fun hc => ?_) (fun _ => ?_)
      · refine x_catch [((0, 9, 12, 21), "java/lang/IndexOutOfBoundsException")] (0, 9, 15, 15) [] rfl hc (List.forall_mem_cons.mpr ⟨⟨by decide, q1975, by decide +kernel⟩, (fun _ h => absurd h List.not_mem_nil)⟩) (by decide) (by decide) q1202 mv1959 ?_
        refine r_astore_n (pc := 15) dX0_cancel_15 rfl (Nat.le_of_ble_eq_true rfl) rfl ?_
        refine r_iconst (v := (2 : Int32)) (pc := 16) dX0_cancel_16 (by decide) ?_
        exact r_iret (pc := 17) dX0_cancel_17 rfl
      · skip
        exact fun r h => by cases h
  · skip
    refine r_i2l (pc := 7) dX0_cancel_7 ?_
    refine r_last (pc := 8) dX0_cancel_8 (fun g5 => ?_)
    refine r_goto (tgt := 18) (pc := 9) dX0_cancel_9 (by decide) ?_
    refine r_iconst (v := (0 : Int32)) (pc := 18) dX0_cancel_18 (by decide) ?_
    exact r_iret (pc := 19) dX0_cancel_19 rfl
abbrev ck_X0_faint : CK := ("BanquetVotesLaw", method_14_code, 4, (some .int), "faint", [(0, 9, 12, 21), (0, 9, 15, 15)], 17)
def f_X0_faint (γ : GP) (x0 : Nat) (x1 : Int32) (x2 : Nat) (g : AH) : Option (Int32 × AH) := bXI ((if hK g x0 = 1 then f_X1_faint γ x0 x1 g else none)) (fun e3 g4 => (if hK g4 e3 = 11 then (some ((1 : Int32), g4)) else (if hK g4 e3 = 25 then (some ((2 : Int32), g4)) else none))) fun v2 g1 => pJ γ g1 x2 (0 : Int32) (v2).toInt64 fun g5 => (some ((0 : Int32), g5))
theorem t_X0_faint (γ : GP) (l : Launch) (hl : l.stackTraces = false) (x0 : Nat) (x1 : Int32) (x2 : Nat) (g : AH) : TrM ρI γ l ⟨"BanquetVotesLaw", "faint", "(LBanquetVotes;I[J)I"⟩ (wsW_ ⟨"BanquetVotesLaw", "faint", "(LBanquetVotes;I[J)I"⟩ method_14_code 4 (some .int) [(0, 9, 12, 21), (0, 9, 15, 15)]) 17 [.ref x0, .int x1, .ref x2] g (f_X0_faint γ x0 x1 x2 g) := by
  refine TrM_ofH (by decide) (Nat.le_of_ble_eq_true rfl) ?_
  unfold f_X0_faint
  change AW ρI γ l ck_X0_faint g 0 [(0, .ref x0), (1, .int x1), (2, .ref x2)] [] g _
  refine r_aload_n (pc := 0) dX0_faint_0 rfl 2 rfl ?_
  refine r_iconst (v := (0 : Int32)) (pc := 1) dX0_faint_1 (by decide) ?_
  refine r_aload_n (pc := 2) dX0_faint_2 rfl 0 rfl ?_
  refine r_iload_n (pc := 3) dX0_faint_3 rfl 1 rfl ?_
  refine r_cXI (pc := 4) (rest := [.int (0 : Int32), .ref x2]) (RunOK_chk (fun h => run_V (n := 1) (c9 := 1) (As := [.int x1]) (rest := [.int (0 : Int32), .ref x2]) (t_X1_faint γ l hl x0 x1 g) dX0_faint_4 q2757 q2758 q2759 q108 q2760 (by decide +kernel) rfl h ⟨rfl, by decide, by decide⟩ (Nat.le_of_ble_eq_true rfl) (Nat.le_of_ble_eq_true rfl) rfl (Nat.le_of_ble_eq_true rfl))) (fun e3 g4 => ?_) (fun v2 g1 => ?_)
  · skip
    refine AX_if (fun hc => ?_) (fun _ => ?_)
    · refine x_catch [] (0, 9, 12, 21) [(0, 9, 15, 15)] rfl hc ((fun _ h => absurd h List.not_mem_nil)) (by decide) (by decide) q1975 mv408 ?_
      refine r_astore_n (pc := 12) dX0_faint_12 rfl (Nat.le_of_ble_eq_true rfl) rfl ?_
      refine r_iconst (v := (1 : Int32)) (pc := 13) dX0_faint_13 (by decide) ?_
      exact r_iret (pc := 14) dX0_faint_14 rfl
    · skip
      refine AX_if (fun hc => ?_) (fun _ => ?_)
      · refine x_catch [((0, 9, 12, 21), "java/lang/IndexOutOfBoundsException")] (0, 9, 15, 15) [] rfl hc (List.forall_mem_cons.mpr ⟨⟨by decide, q1975, by decide +kernel⟩, (fun _ h => absurd h List.not_mem_nil)⟩) (by decide) (by decide) q1202 mv1959 ?_
        refine r_astore_n (pc := 15) dX0_faint_15 rfl (Nat.le_of_ble_eq_true rfl) rfl ?_
        refine r_iconst (v := (2 : Int32)) (pc := 16) dX0_faint_16 (by decide) ?_
        exact r_iret (pc := 17) dX0_faint_17 rfl
      · skip
        exact fun r h => by cases h
  · skip
    refine r_i2l (pc := 7) dX0_faint_7 ?_
    refine r_last (pc := 8) dX0_faint_8 (fun g5 => ?_)
    refine r_goto (tgt := 18) (pc := 9) dX0_faint_9 (by decide) ?_
    refine r_iconst (v := (0 : Int32)) (pc := 18) dX0_faint_18 (by decide) ?_
    exact r_iret (pc := 19) dX0_faint_19 rfl
abbrev ck_X0_wake : CK := ("BanquetVotesLaw", method_15_code, 4, (some .int), "wake", [(0, 9, 12, 21), (0, 9, 15, 15)], 17)
def f_X0_wake (γ : GP) (x0 : Nat) (x1 : Int32) (x2 : Nat) (g : AH) : Option (Int32 × AH) := bXI ((if hK g x0 = 1 then f_X1_wake γ x0 x1 g else none)) (fun e3 g4 => (if hK g4 e3 = 11 then (some ((1 : Int32), g4)) else (if hK g4 e3 = 25 then (some ((2 : Int32), g4)) else none))) fun v2 g1 => pJ γ g1 x2 (0 : Int32) (v2).toInt64 fun g5 => (some ((0 : Int32), g5))
theorem t_X0_wake (γ : GP) (l : Launch) (hl : l.stackTraces = false) (x0 : Nat) (x1 : Int32) (x2 : Nat) (g : AH) : TrM ρI γ l ⟨"BanquetVotesLaw", "wake", "(LBanquetVotes;I[J)I"⟩ (wsW_ ⟨"BanquetVotesLaw", "wake", "(LBanquetVotes;I[J)I"⟩ method_15_code 4 (some .int) [(0, 9, 12, 21), (0, 9, 15, 15)]) 17 [.ref x0, .int x1, .ref x2] g (f_X0_wake γ x0 x1 x2 g) := by
  refine TrM_ofH (by decide) (Nat.le_of_ble_eq_true rfl) ?_
  unfold f_X0_wake
  change AW ρI γ l ck_X0_wake g 0 [(0, .ref x0), (1, .int x1), (2, .ref x2)] [] g _
  refine r_aload_n (pc := 0) dX0_wake_0 rfl 2 rfl ?_
  refine r_iconst (v := (0 : Int32)) (pc := 1) dX0_wake_1 (by decide) ?_
  refine r_aload_n (pc := 2) dX0_wake_2 rfl 0 rfl ?_
  refine r_iload_n (pc := 3) dX0_wake_3 rfl 1 rfl ?_
  refine r_cXI (pc := 4) (rest := [.int (0 : Int32), .ref x2]) (RunOK_chk (fun h => run_V (n := 1) (c9 := 1) (As := [.int x1]) (rest := [.int (0 : Int32), .ref x2]) (t_X1_wake γ l hl x0 x1 g) dX0_wake_4 q2769 q2770 q2771 q108 q2772 (by decide +kernel) rfl h ⟨rfl, by decide, by decide⟩ (Nat.le_of_ble_eq_true rfl) (Nat.le_of_ble_eq_true rfl) rfl (Nat.le_of_ble_eq_true rfl))) (fun e3 g4 => ?_) (fun v2 g1 => ?_)
  · skip
    refine AX_if (fun hc => ?_) (fun _ => ?_)
    · refine x_catch [] (0, 9, 12, 21) [(0, 9, 15, 15)] rfl hc ((fun _ h => absurd h List.not_mem_nil)) (by decide) (by decide) q1975 mv408 ?_
      refine r_astore_n (pc := 12) dX0_wake_12 rfl (Nat.le_of_ble_eq_true rfl) rfl ?_
      refine r_iconst (v := (1 : Int32)) (pc := 13) dX0_wake_13 (by decide) ?_
      exact r_iret (pc := 14) dX0_wake_14 rfl
    · skip
      refine AX_if (fun hc => ?_) (fun _ => ?_)
      · refine x_catch [((0, 9, 12, 21), "java/lang/IndexOutOfBoundsException")] (0, 9, 15, 15) [] rfl hc (List.forall_mem_cons.mpr ⟨⟨by decide, q1975, by decide +kernel⟩, (fun _ h => absurd h List.not_mem_nil)⟩) (by decide) (by decide) q1202 mv1959 ?_
        refine r_astore_n (pc := 15) dX0_wake_15 rfl (Nat.le_of_ble_eq_true rfl) rfl ?_
        refine r_iconst (v := (2 : Int32)) (pc := 16) dX0_wake_16 (by decide) ?_
        exact r_iret (pc := 17) dX0_wake_17 rfl
      · skip
        exact fun r h => by cases h
  · skip
    refine r_i2l (pc := 7) dX0_wake_7 ?_
    refine r_last (pc := 8) dX0_wake_8 (fun g5 => ?_)
    refine r_goto (tgt := 18) (pc := 9) dX0_wake_9 (by decide) ?_
    refine r_iconst (v := (0 : Int32)) (pc := 18) dX0_wake_18 (by decide) ?_
    exact r_iret (pc := 19) dX0_wake_19 rfl
abbrev ck_X0_learn : CK := ("BanquetVotesLaw", method_16_code, 6, (some .int), "learn", [(0, 12, 15, 21), (0, 12, 19, 13), (0, 12, 23, 15)], 17)
def f_X0_learn (γ : GP) (x0 : Nat) (x1 : Int32) (x2 : Int32) (x3 : Int32) (x4 : Nat) (g : AH) : Option (Int32 × AH) := bXI ((if hK g x0 = 1 then f_X1_learn γ x0 x1 x2 x3 g else none)) (fun e3 g4 => (if hK g4 e3 = 9 then (some ((2 : Int32), g4)) else (if hK g4 e3 = 11 then (some ((1 : Int32), g4)) else (if hK g4 e3 = 25 then (some ((3 : Int32), g4)) else none)))) fun v2 g1 => pJ γ g1 x4 (0 : Int32) (v2).toInt64 fun g5 => (some ((0 : Int32), g5))
theorem t_X0_learn (γ : GP) (l : Launch) (hl : l.stackTraces = false) (x0 : Nat) (x1 : Int32) (x2 : Int32) (x3 : Int32) (x4 : Nat) (g : AH) : TrM ρI γ l ⟨"BanquetVotesLaw", "learn", "(LBanquetVotes;III[J)I"⟩ (wsW_ ⟨"BanquetVotesLaw", "learn", "(LBanquetVotes;III[J)I"⟩ method_16_code 6 (some .int) [(0, 12, 15, 21), (0, 12, 19, 13), (0, 12, 23, 15)]) 17 [.ref x0, .int x1, .int x2, .int x3, .ref x4] g (f_X0_learn γ x0 x1 x2 x3 x4 g) := by
  refine TrM_ofH (by decide) (Nat.le_of_ble_eq_true rfl) ?_
  unfold f_X0_learn
  change AW ρI γ l ck_X0_learn g 0 [(0, .ref x0), (1, .int x1), (2, .int x2), (3, .int x3), (4, .ref x4)] [] g _
  refine r_aload (pc := 0) dX0_learn_0 4 rfl ?_
  refine r_iconst (v := (0 : Int32)) (pc := 2) dX0_learn_2 (by decide) ?_
  refine r_aload_n (pc := 3) dX0_learn_3 rfl 0 rfl ?_
  refine r_iload_n (pc := 4) dX0_learn_4 rfl 1 rfl ?_
  refine r_iload_n (pc := 5) dX0_learn_5 rfl 2 rfl ?_
  refine r_iload_n (pc := 6) dX0_learn_6 rfl 3 rfl ?_
  refine r_cXI (pc := 7) (rest := [.int (0 : Int32), .ref x4]) (RunOK_chk (fun h => run_V (n := 3) (c9 := 1) (As := [.int x1, .int x2, .int x3]) (rest := [.int (0 : Int32), .ref x4]) (t_X1_learn γ l hl x0 x1 x2 x3 g) dX0_learn_7 q2777 q2778 q2779 q108 q2780 (by decide +kernel) rfl h ⟨rfl, by decide, by decide⟩ (Nat.le_of_ble_eq_true rfl) (Nat.le_of_ble_eq_true rfl) rfl (Nat.le_of_ble_eq_true rfl))) (fun e3 g4 => ?_) (fun v2 g1 => ?_)
  · skip
    refine AX_if (fun hc => ?_) (fun _ => ?_)
    · refine x_catch [((0, 12, 15, 21), "java/lang/IndexOutOfBoundsException")] (0, 12, 19, 13) [(0, 12, 23, 15)] rfl hc (List.forall_mem_cons.mpr ⟨⟨by decide, q1975, by decide +kernel⟩, (fun _ h => absurd h List.not_mem_nil)⟩) (by decide) (by decide) q1201 mv645 ?_
      refine r_astore (pc := 19) dX0_learn_19 (Nat.le_of_ble_eq_true rfl) rfl ?_
      refine r_iconst (v := (2 : Int32)) (pc := 21) dX0_learn_21 (by decide) ?_
      exact r_iret (pc := 22) dX0_learn_22 rfl
    · skip
      refine AX_if (fun hc => ?_) (fun _ => ?_)
      · refine x_catch [] (0, 12, 15, 21) [(0, 12, 19, 13), (0, 12, 23, 15)] rfl hc ((fun _ h => absurd h List.not_mem_nil)) (by decide) (by decide) q1975 mv408 ?_
        refine r_astore (pc := 15) dX0_learn_15 (Nat.le_of_ble_eq_true rfl) rfl ?_
        refine r_iconst (v := (1 : Int32)) (pc := 17) dX0_learn_17 (by decide) ?_
        exact r_iret (pc := 18) dX0_learn_18 rfl
      · skip
        refine AX_if (fun hc => ?_) (fun _ => ?_)
        · refine x_catch [((0, 12, 15, 21), "java/lang/IndexOutOfBoundsException"), ((0, 12, 19, 13), "java/lang/IllegalArgumentException")] (0, 12, 23, 15) [] rfl hc (List.forall_mem_cons.mpr ⟨⟨by decide, q1975, by decide +kernel⟩, List.forall_mem_cons.mpr ⟨⟨by decide, q1201, by decide +kernel⟩, (fun _ h => absurd h List.not_mem_nil)⟩⟩) (by decide) (by decide) q1202 mv1959 ?_
          refine r_astore (pc := 23) dX0_learn_23 (Nat.le_of_ble_eq_true rfl) rfl ?_
          refine r_iconst (v := (3 : Int32)) (pc := 25) dX0_learn_25 (by decide) ?_
          exact r_iret (pc := 26) dX0_learn_26 rfl
        · skip
          exact fun r h => by cases h
  · skip
    refine r_i2l (pc := 10) dX0_learn_10 ?_
    refine r_last (pc := 11) dX0_learn_11 (fun g5 => ?_)
    refine r_goto (tgt := 27) (pc := 12) dX0_learn_12 (by decide) ?_
    refine r_iconst (v := (0 : Int32)) (pc := 27) dX0_learn_27 (by decide) ?_
    exact r_iret (pc := 28) dX0_learn_28 rfl
abbrev ck_X0_pass : CK := ("BanquetVotesLaw", method_17_code, 4, (some .int), "pass", [(0, 9, 12, 13)], 17)
def f_X0_pass (γ : GP) (x0 : Nat) (x1 : Int32) (x2 : Nat) (g : AH) : Option (Int32 × AH) := bXI ((if hK g x0 = 1 then f_X1_pass γ x0 x1 g else none)) (fun e3 g4 => (if hK g4 e3 = 9 then (some ((1 : Int32), g4)) else none)) fun v2 g1 => pJ γ g1 x2 (0 : Int32) (v2).toInt64 fun g5 => (some ((0 : Int32), g5))
theorem t_X0_pass (γ : GP) (l : Launch) (hl : l.stackTraces = false) (x0 : Nat) (x1 : Int32) (x2 : Nat) (g : AH) : TrM ρI γ l ⟨"BanquetVotesLaw", "pass", "(LBanquetVotes;I[J)I"⟩ (wsW_ ⟨"BanquetVotesLaw", "pass", "(LBanquetVotes;I[J)I"⟩ method_17_code 4 (some .int) [(0, 9, 12, 13)]) 17 [.ref x0, .int x1, .ref x2] g (f_X0_pass γ x0 x1 x2 g) := by
  refine TrM_ofH (by decide) (Nat.le_of_ble_eq_true rfl) ?_
  unfold f_X0_pass
  change AW ρI γ l ck_X0_pass g 0 [(0, .ref x0), (1, .int x1), (2, .ref x2)] [] g _
  refine r_aload_n (pc := 0) dX0_pass_0 rfl 2 rfl ?_
  refine r_iconst (v := (0 : Int32)) (pc := 1) dX0_pass_1 (by decide) ?_
  refine r_aload_n (pc := 2) dX0_pass_2 rfl 0 rfl ?_
  refine r_iload_n (pc := 3) dX0_pass_3 rfl 1 rfl ?_
  refine r_cXI (pc := 4) (rest := [.int (0 : Int32), .ref x2]) (RunOK_chk (fun h => run_V (n := 1) (c9 := 1) (As := [.int x1]) (rest := [.int (0 : Int32), .ref x2]) (t_X1_pass γ l hl x0 x1 g) dX0_pass_4 q2785 q2786 q2787 q108 q2788 (by decide +kernel) rfl h ⟨rfl, by decide, by decide⟩ (Nat.le_of_ble_eq_true rfl) (Nat.le_of_ble_eq_true rfl) rfl (Nat.le_of_ble_eq_true rfl))) (fun e3 g4 => ?_) (fun v2 g1 => ?_)
  · skip
    refine AX_if (fun hc => ?_) (fun _ => ?_)
    · refine x_catch [] (0, 9, 12, 13) [] rfl hc ((fun _ h => absurd h List.not_mem_nil)) (by decide) (by decide) q1201 mv645 ?_
      refine r_astore_n (pc := 12) dX0_pass_12 rfl (Nat.le_of_ble_eq_true rfl) rfl ?_
      refine r_iconst (v := (1 : Int32)) (pc := 13) dX0_pass_13 (by decide) ?_
      exact r_iret (pc := 14) dX0_pass_14 rfl
    · skip
      exact fun r h => by cases h
  · skip
    refine r_i2l (pc := 7) dX0_pass_7 ?_
    refine r_last (pc := 8) dX0_pass_8 (fun g5 => ?_)
    refine r_goto (tgt := 15) (pc := 9) dX0_pass_9 (by decide) ?_
    refine r_iconst (v := (0 : Int32)) (pc := 15) dX0_pass_15 (by decide) ?_
    exact r_iret (pc := 16) dX0_pass_16 rfl
abbrev ck_X0_courseIn : CK := ("BanquetVotesLaw", method_18_code, 5, (some .int), "courseIn", [(0, 10, 13, 21), (0, 10, 17, 13)], 15)
def f_X0_courseIn (γ : GP) (x0 : Nat) (x1 : Int32) (x2 : Int32) (x3 : Nat) (g : AH) : Option (Int32 × AH) := bXI ((if hK g x0 = 1 then f_X1_courseIn γ x0 x1 x2 g else none)) (fun e3 g4 => (if hK g4 e3 = 9 then (some ((2 : Int32), g4)) else (if hK g4 e3 = 11 then (some ((1 : Int32), g4)) else none))) fun v2 g1 => pJ γ g1 x3 (0 : Int32) (v2).toInt64 fun g5 => (some ((0 : Int32), g5))
theorem t_X0_courseIn (γ : GP) (l : Launch) (hl : l.stackTraces = false) (x0 : Nat) (x1 : Int32) (x2 : Int32) (x3 : Nat) (g : AH) : TrM ρI γ l ⟨"BanquetVotesLaw", "courseIn", "(LBanquetVotes;II[J)I"⟩ (wsW_ ⟨"BanquetVotesLaw", "courseIn", "(LBanquetVotes;II[J)I"⟩ method_18_code 5 (some .int) [(0, 10, 13, 21), (0, 10, 17, 13)]) 15 [.ref x0, .int x1, .int x2, .ref x3] g (f_X0_courseIn γ x0 x1 x2 x3 g) := by
  refine TrM_ofH (by decide) (Nat.le_of_ble_eq_true rfl) ?_
  unfold f_X0_courseIn
  change AW ρI γ l ck_X0_courseIn g 0 [(0, .ref x0), (1, .int x1), (2, .int x2), (3, .ref x3)] [] g _
  refine r_aload_n (pc := 0) dX0_courseIn_0 rfl 3 rfl ?_
  refine r_iconst (v := (0 : Int32)) (pc := 1) dX0_courseIn_1 (by decide) ?_
  refine r_aload_n (pc := 2) dX0_courseIn_2 rfl 0 rfl ?_
  refine r_iload_n (pc := 3) dX0_courseIn_3 rfl 1 rfl ?_
  refine r_iload_n (pc := 4) dX0_courseIn_4 rfl 2 rfl ?_
  refine r_cXI (pc := 5) (rest := [.int (0 : Int32), .ref x3]) (RunOK_chk (fun h => run_V (n := 2) (c9 := 1) (As := [.int x1, .int x2]) (rest := [.int (0 : Int32), .ref x3]) (t_X1_courseIn γ l hl x0 x1 x2 g) dX0_courseIn_5 q2793 q2794 q2795 q108 q2796 (by decide +kernel) rfl h ⟨rfl, by decide, by decide⟩ (Nat.le_of_ble_eq_true rfl) (Nat.le_of_ble_eq_true rfl) rfl (Nat.le_of_ble_eq_true rfl))) (fun e3 g4 => ?_) (fun v2 g1 => ?_)
  · skip
    refine AX_if (fun hc => ?_) (fun _ => ?_)
    · refine x_catch [((0, 10, 13, 21), "java/lang/IndexOutOfBoundsException")] (0, 10, 17, 13) [] rfl hc (List.forall_mem_cons.mpr ⟨⟨by decide, q1975, by decide +kernel⟩, (fun _ h => absurd h List.not_mem_nil)⟩) (by decide) (by decide) q1201 mv645 ?_
      refine r_astore (pc := 17) dX0_courseIn_17 (Nat.le_of_ble_eq_true rfl) rfl ?_
      refine r_iconst (v := (2 : Int32)) (pc := 19) dX0_courseIn_19 (by decide) ?_
      exact r_iret (pc := 20) dX0_courseIn_20 rfl
    · skip
      refine AX_if (fun hc => ?_) (fun _ => ?_)
      · refine x_catch [] (0, 10, 13, 21) [(0, 10, 17, 13)] rfl hc ((fun _ h => absurd h List.not_mem_nil)) (by decide) (by decide) q1975 mv408 ?_
        refine r_astore (pc := 13) dX0_courseIn_13 (Nat.le_of_ble_eq_true rfl) rfl ?_
        refine r_iconst (v := (1 : Int32)) (pc := 15) dX0_courseIn_15 (by decide) ?_
        exact r_iret (pc := 16) dX0_courseIn_16 rfl
      · skip
        exact fun r h => by cases h
  · skip
    refine r_i2l (pc := 8) dX0_courseIn_8 ?_
    refine r_last (pc := 9) dX0_courseIn_9 (fun g5 => ?_)
    refine r_goto (tgt := 21) (pc := 10) dX0_courseIn_10 (by decide) ?_
    refine r_iconst (v := (0 : Int32)) (pc := 21) dX0_courseIn_21 (by decide) ?_
    exact r_iret (pc := 22) dX0_courseIn_22 rfl
abbrev ck_X0_clearIn : CK := ("BanquetVotesLaw", method_19_code, 4, (some .int), "clearIn", [(0, 9, 12, 21), (0, 9, 15, 41)], 16)
def f_X0_clearIn (γ : GP) (x0 : Nat) (x1 : Int32) (x2 : Nat) (g : AH) : Option (Int32 × AH) := bXI ((if hK g x0 = 1 then f_X1_clearIn γ x0 x1 g else none)) (fun e3 g4 => (if hK g4 e3 = 11 then (some ((1 : Int32), g4)) else (if hK g4 e3 = 14 then (some ((2 : Int32), g4)) else none))) fun v2 g1 => pJ γ g1 x2 (0 : Int32) (v2).toInt64 fun g5 => (some ((0 : Int32), g5))
theorem t_X0_clearIn (γ : GP) (l : Launch) (hl : l.stackTraces = false) (x0 : Nat) (x1 : Int32) (x2 : Nat) (g : AH) : TrM ρI γ l ⟨"BanquetVotesLaw", "clearIn", "(LBanquetVotes;I[J)I"⟩ (wsW_ ⟨"BanquetVotesLaw", "clearIn", "(LBanquetVotes;I[J)I"⟩ method_19_code 4 (some .int) [(0, 9, 12, 21), (0, 9, 15, 41)]) 16 [.ref x0, .int x1, .ref x2] g (f_X0_clearIn γ x0 x1 x2 g) := by
  refine TrM_ofH (by decide) (Nat.le_of_ble_eq_true rfl) ?_
  unfold f_X0_clearIn
  change AW ρI γ l ck_X0_clearIn g 0 [(0, .ref x0), (1, .int x1), (2, .ref x2)] [] g _
  refine r_aload_n (pc := 0) dX0_clearIn_0 rfl 2 rfl ?_
  refine r_iconst (v := (0 : Int32)) (pc := 1) dX0_clearIn_1 (by decide) ?_
  refine r_aload_n (pc := 2) dX0_clearIn_2 rfl 0 rfl ?_
  refine r_iload_n (pc := 3) dX0_clearIn_3 rfl 1 rfl ?_
  refine r_cXI (pc := 4) (rest := [.int (0 : Int32), .ref x2]) (RunOK_chk (fun h => run_V (n := 1) (c9 := 1) (As := [.int x1]) (rest := [.int (0 : Int32), .ref x2]) (t_X1_clearIn γ l hl x0 x1 g) dX0_clearIn_4 q2801 q2802 q2803 q108 q2804 (by decide +kernel) rfl h ⟨rfl, by decide, by decide⟩ (Nat.le_of_ble_eq_true rfl) (Nat.le_of_ble_eq_true rfl) rfl (Nat.le_of_ble_eq_true rfl))) (fun e3 g4 => ?_) (fun v2 g1 => ?_)
  · skip
    refine AX_if (fun hc => ?_) (fun _ => ?_)
    · refine x_catch [] (0, 9, 12, 21) [(0, 9, 15, 41)] rfl hc ((fun _ h => absurd h List.not_mem_nil)) (by decide) (by decide) q1975 mv408 ?_
      refine r_astore_n (pc := 12) dX0_clearIn_12 rfl (Nat.le_of_ble_eq_true rfl) rfl ?_
      refine r_iconst (v := (1 : Int32)) (pc := 13) dX0_clearIn_13 (by decide) ?_
      exact r_iret (pc := 14) dX0_clearIn_14 rfl
    · skip
      refine AX_if (fun hc => ?_) (fun _ => ?_)
      · refine x_catch [((0, 9, 12, 21), "java/lang/IndexOutOfBoundsException")] (0, 9, 15, 41) [] rfl hc (List.forall_mem_cons.mpr ⟨⟨by decide, q1975, by decide +kernel⟩, (fun _ h => absurd h List.not_mem_nil)⟩) (by decide) (by decide) q2176 mv870 ?_
        refine r_astore_n (pc := 15) dX0_clearIn_15 rfl (Nat.le_of_ble_eq_true rfl) rfl ?_
        refine r_iconst (v := (2 : Int32)) (pc := 16) dX0_clearIn_16 (by decide) ?_
        exact r_iret (pc := 17) dX0_clearIn_17 rfl
      · skip
        exact fun r h => by cases h
  · skip
    refine r_i2l (pc := 7) dX0_clearIn_7 ?_
    refine r_last (pc := 8) dX0_clearIn_8 (fun g5 => ?_)
    refine r_goto (tgt := 18) (pc := 9) dX0_clearIn_9 (by decide) ?_
    refine r_iconst (v := (0 : Int32)) (pc := 18) dX0_clearIn_18 (by decide) ?_
    exact r_iret (pc := 19) dX0_clearIn_19 rfl
abbrev ck_X0_messageOf : CK := ("BanquetVotesLaw", method_20_code, 5, (some .int), "messageOf", [(0, 10, 13, 41), (0, 10, 17, 13)], 10)
def f_X0_messageOf (γ : GP) (x0 : Nat) (x1 : Int32) (x2 : Int32) (x3 : Nat) (g : AH) : Option (Int32 × AH) := bXI ((if hK g x0 = 1 then f_X1_messageOf γ x0 x1 x2 g else none)) (fun e3 g4 => (if hK g4 e3 = 9 then (some ((2 : Int32), g4)) else (if hK g4 e3 = 14 then (some ((1 : Int32), g4)) else none))) fun v2 g1 => pJ γ g1 x3 (0 : Int32) (v2).toInt64 fun g5 => (some ((0 : Int32), g5))
theorem t_X0_messageOf (γ : GP) (l : Launch) (hl : l.stackTraces = false) (x0 : Nat) (x1 : Int32) (x2 : Int32) (x3 : Nat) (g : AH) : TrM ρI γ l ⟨"BanquetVotesLaw", "messageOf", "(LBanquetVotes;II[J)I"⟩ (wsW_ ⟨"BanquetVotesLaw", "messageOf", "(LBanquetVotes;II[J)I"⟩ method_20_code 5 (some .int) [(0, 10, 13, 41), (0, 10, 17, 13)]) 10 [.ref x0, .int x1, .int x2, .ref x3] g (f_X0_messageOf γ x0 x1 x2 x3 g) := by
  refine TrM_ofH (by decide) (Nat.le_of_ble_eq_true rfl) ?_
  unfold f_X0_messageOf
  change AW ρI γ l ck_X0_messageOf g 0 [(0, .ref x0), (1, .int x1), (2, .int x2), (3, .ref x3)] [] g _
  refine r_aload_n (pc := 0) dX0_messageOf_0 rfl 3 rfl ?_
  refine r_iconst (v := (0 : Int32)) (pc := 1) dX0_messageOf_1 (by decide) ?_
  refine r_aload_n (pc := 2) dX0_messageOf_2 rfl 0 rfl ?_
  refine r_iload_n (pc := 3) dX0_messageOf_3 rfl 1 rfl ?_
  refine r_iload_n (pc := 4) dX0_messageOf_4 rfl 2 rfl ?_
  refine r_cXI (pc := 5) (rest := [.int (0 : Int32), .ref x3]) (RunOK_chk (fun h => run_V (n := 2) (c9 := 1) (As := [.int x1, .int x2]) (rest := [.int (0 : Int32), .ref x3]) (t_X1_messageOf γ l hl x0 x1 x2 g) dX0_messageOf_5 q2815 q2816 q2817 q108 q2818 (by decide +kernel) rfl h ⟨rfl, by decide, by decide⟩ (Nat.le_of_ble_eq_true rfl) (Nat.le_of_ble_eq_true rfl) rfl (Nat.le_of_ble_eq_true rfl))) (fun e3 g4 => ?_) (fun v2 g1 => ?_)
  · skip
    refine AX_if (fun hc => ?_) (fun _ => ?_)
    · refine x_catch [((0, 10, 13, 41), "java/util/NoSuchElementException")] (0, 10, 17, 13) [] rfl hc (List.forall_mem_cons.mpr ⟨⟨by decide, q2176, by decide +kernel⟩, (fun _ h => absurd h List.not_mem_nil)⟩) (by decide) (by decide) q1201 mv645 ?_
      refine r_astore (pc := 17) dX0_messageOf_17 (Nat.le_of_ble_eq_true rfl) rfl ?_
      refine r_iconst (v := (2 : Int32)) (pc := 19) dX0_messageOf_19 (by decide) ?_
      exact r_iret (pc := 20) dX0_messageOf_20 rfl
    · skip
      refine AX_if (fun hc => ?_) (fun _ => ?_)
      · refine x_catch [] (0, 10, 13, 41) [(0, 10, 17, 13)] rfl hc ((fun _ h => absurd h List.not_mem_nil)) (by decide) (by decide) q2176 mv870 ?_
        refine r_astore (pc := 13) dX0_messageOf_13 (Nat.le_of_ble_eq_true rfl) rfl ?_
        refine r_iconst (v := (1 : Int32)) (pc := 15) dX0_messageOf_15 (by decide) ?_
        exact r_iret (pc := 16) dX0_messageOf_16 rfl
      · skip
        exact fun r h => by cases h
  · skip
    refine r_i2l (pc := 8) dX0_messageOf_8 ?_
    refine r_last (pc := 9) dX0_messageOf_9 (fun g5 => ?_)
    refine r_goto (tgt := 21) (pc := 10) dX0_messageOf_10 (by decide) ?_
    refine r_iconst (v := (0 : Int32)) (pc := 21) dX0_messageOf_21 (by decide) ?_
    exact r_iret (pc := 22) dX0_messageOf_22 rfl
abbrev ck_X0_logOf : CK := ("BanquetVotesLaw", method_21_code, 6, (some .int), "logOf", [(0, 12, 15, 21), (0, 12, 19, 41), (0, 12, 23, 13)], 11)
def f_X0_logOf (γ : GP) (x0 : Nat) (x1 : Int32) (x2 : Int32) (x3 : Int32) (x4 : Nat) (g : AH) : Option (Int32 × AH) := bXI ((if hK g x0 = 1 then f_X1_logOf γ x0 x1 x2 x3 g else none)) (fun e3 g4 => (if hK g4 e3 = 9 then (some ((3 : Int32), g4)) else (if hK g4 e3 = 11 then (some ((1 : Int32), g4)) else (if hK g4 e3 = 14 then (some ((2 : Int32), g4)) else none)))) fun v2 g1 => pJ γ g1 x4 (0 : Int32) (v2).toInt64 fun g5 => (some ((0 : Int32), g5))
theorem t_X0_logOf (γ : GP) (l : Launch) (hl : l.stackTraces = false) (x0 : Nat) (x1 : Int32) (x2 : Int32) (x3 : Int32) (x4 : Nat) (g : AH) : TrM ρI γ l ⟨"BanquetVotesLaw", "logOf", "(LBanquetVotes;III[J)I"⟩ (wsW_ ⟨"BanquetVotesLaw", "logOf", "(LBanquetVotes;III[J)I"⟩ method_21_code 6 (some .int) [(0, 12, 15, 21), (0, 12, 19, 41), (0, 12, 23, 13)]) 11 [.ref x0, .int x1, .int x2, .int x3, .ref x4] g (f_X0_logOf γ x0 x1 x2 x3 x4 g) := by
  refine TrM_ofH (by decide) (Nat.le_of_ble_eq_true rfl) ?_
  unfold f_X0_logOf
  change AW ρI γ l ck_X0_logOf g 0 [(0, .ref x0), (1, .int x1), (2, .int x2), (3, .int x3), (4, .ref x4)] [] g _
  refine r_aload (pc := 0) dX0_logOf_0 4 rfl ?_
  refine r_iconst (v := (0 : Int32)) (pc := 2) dX0_logOf_2 (by decide) ?_
  refine r_aload_n (pc := 3) dX0_logOf_3 rfl 0 rfl ?_
  refine r_iload_n (pc := 4) dX0_logOf_4 rfl 1 rfl ?_
  refine r_iload_n (pc := 5) dX0_logOf_5 rfl 2 rfl ?_
  refine r_iload_n (pc := 6) dX0_logOf_6 rfl 3 rfl ?_
  refine r_cXI (pc := 7) (rest := [.int (0 : Int32), .ref x4]) (RunOK_chk (fun h => run_V (n := 3) (c9 := 1) (As := [.int x1, .int x2, .int x3]) (rest := [.int (0 : Int32), .ref x4]) (t_X1_logOf γ l hl x0 x1 x2 x3 g) dX0_logOf_7 q2867 q2868 q2869 q108 q2870 (by decide +kernel) rfl h ⟨rfl, by decide, by decide⟩ (Nat.le_of_ble_eq_true rfl) (Nat.le_of_ble_eq_true rfl) rfl (Nat.le_of_ble_eq_true rfl))) (fun e3 g4 => ?_) (fun v2 g1 => ?_)
  · skip
    refine AX_if (fun hc => ?_) (fun _ => ?_)
    · refine x_catch [((0, 12, 15, 21), "java/lang/IndexOutOfBoundsException"), ((0, 12, 19, 41), "java/util/NoSuchElementException")] (0, 12, 23, 13) [] rfl hc (List.forall_mem_cons.mpr ⟨⟨by decide, q1975, by decide +kernel⟩, List.forall_mem_cons.mpr ⟨⟨by decide, q2176, by decide +kernel⟩, (fun _ h => absurd h List.not_mem_nil)⟩⟩) (by decide) (by decide) q1201 mv645 ?_
      refine r_astore (pc := 23) dX0_logOf_23 (Nat.le_of_ble_eq_true rfl) rfl ?_
      refine r_iconst (v := (3 : Int32)) (pc := 25) dX0_logOf_25 (by decide) ?_
      exact r_iret (pc := 26) dX0_logOf_26 rfl
    · skip
      refine AX_if (fun hc => ?_) (fun _ => ?_)
      · refine x_catch [] (0, 12, 15, 21) [(0, 12, 19, 41), (0, 12, 23, 13)] rfl hc ((fun _ h => absurd h List.not_mem_nil)) (by decide) (by decide) q1975 mv408 ?_
        refine r_astore (pc := 15) dX0_logOf_15 (Nat.le_of_ble_eq_true rfl) rfl ?_
        refine r_iconst (v := (1 : Int32)) (pc := 17) dX0_logOf_17 (by decide) ?_
        exact r_iret (pc := 18) dX0_logOf_18 rfl
      · skip
        refine AX_if (fun hc => ?_) (fun _ => ?_)
        · refine x_catch [((0, 12, 15, 21), "java/lang/IndexOutOfBoundsException")] (0, 12, 19, 41) [(0, 12, 23, 13)] rfl hc (List.forall_mem_cons.mpr ⟨⟨by decide, q1975, by decide +kernel⟩, (fun _ h => absurd h List.not_mem_nil)⟩) (by decide) (by decide) q2176 mv870 ?_
          refine r_astore (pc := 19) dX0_logOf_19 (Nat.le_of_ble_eq_true rfl) rfl ?_
          refine r_iconst (v := (2 : Int32)) (pc := 21) dX0_logOf_21 (by decide) ?_
          exact r_iret (pc := 22) dX0_logOf_22 rfl
        · skip
          exact fun r h => by cases h
  · skip
    refine r_i2l (pc := 10) dX0_logOf_10 ?_
    refine r_last (pc := 11) dX0_logOf_11 (fun g5 => ?_)
    refine r_goto (tgt := 27) (pc := 12) dX0_logOf_12 (by decide) ?_
    refine r_iconst (v := (0 : Int32)) (pc := 27) dX0_logOf_27 (by decide) ?_
    exact r_iret (pc := 28) dX0_logOf_28 rfl
abbrev ck_X0_ranked : CK := ("BanquetVotesLaw", method_22_code, 4, (some .int), "ranked", [(0, 9, 12, 41)], 10)
def f_X0_ranked (γ : GP) (x0 : Nat) (x1 : Int32) (x2 : Nat) (g : AH) : Option (Int32 × AH) := bXI ((if hK g x0 = 1 then f_X1_ranked γ x0 x1 g else none)) (fun e3 g4 => (if hK g4 e3 = 14 then (some ((1 : Int32), g4)) else none)) fun v2 g1 => pJ γ g1 x2 (0 : Int32) (v2).toInt64 fun g5 => (some ((0 : Int32), g5))
theorem t_X0_ranked (γ : GP) (l : Launch) (hl : l.stackTraces = false) (x0 : Nat) (x1 : Int32) (x2 : Nat) (g : AH) : TrM ρI γ l ⟨"BanquetVotesLaw", "ranked", "(LBanquetVotes;I[J)I"⟩ (wsW_ ⟨"BanquetVotesLaw", "ranked", "(LBanquetVotes;I[J)I"⟩ method_22_code 4 (some .int) [(0, 9, 12, 41)]) 10 [.ref x0, .int x1, .ref x2] g (f_X0_ranked γ x0 x1 x2 g) := by
  refine TrM_ofH (by decide) (Nat.le_of_ble_eq_true rfl) ?_
  unfold f_X0_ranked
  change AW ρI γ l ck_X0_ranked g 0 [(0, .ref x0), (1, .int x1), (2, .ref x2)] [] g _
  refine r_aload_n (pc := 0) dX0_ranked_0 rfl 2 rfl ?_
  refine r_iconst (v := (0 : Int32)) (pc := 1) dX0_ranked_1 (by decide) ?_
  refine r_aload_n (pc := 2) dX0_ranked_2 rfl 0 rfl ?_
  refine r_iload_n (pc := 3) dX0_ranked_3 rfl 1 rfl ?_
  refine r_cXI (pc := 4) (rest := [.int (0 : Int32), .ref x2]) (RunOK_chk (fun h => run_V (n := 1) (c9 := 1) (As := [.int x1]) (rest := [.int (0 : Int32), .ref x2]) (t_X1_ranked γ l hl x0 x1 g) dX0_ranked_4 q2881 q2882 q2883 q108 q2884 (by decide +kernel) rfl h ⟨rfl, by decide, by decide⟩ (Nat.le_of_ble_eq_true rfl) (Nat.le_of_ble_eq_true rfl) rfl (Nat.le_of_ble_eq_true rfl))) (fun e3 g4 => ?_) (fun v2 g1 => ?_)
  · skip
    refine AX_if (fun hc => ?_) (fun _ => ?_)
    · refine x_catch [] (0, 9, 12, 41) [] rfl hc ((fun _ h => absurd h List.not_mem_nil)) (by decide) (by decide) q2176 mv870 ?_
      refine r_astore_n (pc := 12) dX0_ranked_12 rfl (Nat.le_of_ble_eq_true rfl) rfl ?_
      refine r_iconst (v := (1 : Int32)) (pc := 13) dX0_ranked_13 (by decide) ?_
      exact r_iret (pc := 14) dX0_ranked_14 rfl
    · skip
      exact fun r h => by cases h
  · skip
    refine r_i2l (pc := 7) dX0_ranked_7 ?_
    refine r_last (pc := 8) dX0_ranked_8 (fun g5 => ?_)
    refine r_goto (tgt := 15) (pc := 9) dX0_ranked_9 (by decide) ?_
    refine r_iconst (v := (0 : Int32)) (pc := 15) dX0_ranked_15 (by decide) ?_
    exact r_iret (pc := 16) dX0_ranked_16 rfl
abbrev ck_X0_type : CK := ("BanquetVotesLaw", method_23_code, 4, (some .int), "type", [(0, 9, 12, 87)], 10)
def f_X0_type (γ : GP) (x0 : Nat) (x1 : Int32) (x2 : Nat) (g : AH) : Option (Int32 × AH) := bXI ((if hK g x0 = 1 then f_X1_type γ x0 x1 g else none)) (fun e3 g4 => (if hK g4 e3 = 33 then (some ((1 : Int32), g4)) else none)) fun v2 g1 => pJ γ g1 x2 (0 : Int32) (v2).toInt64 fun g5 => (some ((0 : Int32), g5))
theorem t_X0_type (γ : GP) (l : Launch) (hl : l.stackTraces = false) (x0 : Nat) (x1 : Int32) (x2 : Nat) (g : AH) : TrM ρI γ l ⟨"BanquetVotesLaw", "type", "(LBanquetVotes;C[J)I"⟩ (wsW_ ⟨"BanquetVotesLaw", "type", "(LBanquetVotes;C[J)I"⟩ method_23_code 4 (some .int) [(0, 9, 12, 87)]) 10 [.ref x0, .int x1, .ref x2] g (f_X0_type γ x0 x1 x2 g) := by
  refine TrM_ofH (by decide) (Nat.le_of_ble_eq_true rfl) ?_
  unfold f_X0_type
  change AW ρI γ l ck_X0_type g 0 [(0, .ref x0), (1, .int x1), (2, .ref x2)] [] g _
  refine r_aload_n (pc := 0) dX0_type_0 rfl 2 rfl ?_
  refine r_iconst (v := (0 : Int32)) (pc := 1) dX0_type_1 (by decide) ?_
  refine r_aload_n (pc := 2) dX0_type_2 rfl 0 rfl ?_
  refine r_iload_n (pc := 3) dX0_type_3 rfl 1 rfl ?_
  refine r_cXI (pc := 4) (rest := [.int (0 : Int32), .ref x2]) (RunOK_chk (fun h => run_V (n := 1) (c9 := 1) (As := [.int x1]) (rest := [.int (0 : Int32), .ref x2]) (t_X1_type γ l hl x0 x1 g) dX0_type_4 q2900 q2901 q2902 q108 q2903 (by decide +kernel) rfl h ⟨rfl, by decide, by decide⟩ (Nat.le_of_ble_eq_true rfl) (Nat.le_of_ble_eq_true rfl) rfl (Nat.le_of_ble_eq_true rfl))) (fun e3 g4 => ?_) (fun v2 g1 => ?_)
  · skip
    refine AX_if (fun hc => ?_) (fun _ => ?_)
    · refine x_catch [] (0, 9, 12, 87) [] rfl hc ((fun _ h => absurd h List.not_mem_nil)) (by decide) (by decide) q2899 mv2910 ?_
      refine r_astore_n (pc := 12) dX0_type_12 rfl (Nat.le_of_ble_eq_true rfl) rfl ?_
      refine r_iconst (v := (1 : Int32)) (pc := 13) dX0_type_13 (by decide) ?_
      exact r_iret (pc := 14) dX0_type_14 rfl
    · skip
      exact fun r h => by cases h
  · skip
    refine r_i2l (pc := 7) dX0_type_7 ?_
    refine r_last (pc := 8) dX0_type_8 (fun g5 => ?_)
    refine r_goto (tgt := 15) (pc := 9) dX0_type_9 (by decide) ?_
    refine r_iconst (v := (0 : Int32)) (pc := 15) dX0_type_15 (by decide) ?_
    exact r_iret (pc := 16) dX0_type_16 rfl
abbrev ck_X0_read : CK := ("BanquetVotesLaw", method_24_code, 3, (some .int), "read", [(0, 8, 11, 13), (0, 8, 14, 15)], 17)
def f_X0_read (γ : GP) (x0 : Nat) (x1 : Nat) (g : AH) : Option (Int32 × AH) := bXI ((if hK g x0 = 1 then f_X1_read γ x0 g else none)) (fun e3 g4 => (if hK g4 e3 = 9 then (some ((1 : Int32), g4)) else (if hK g4 e3 = 25 then (some ((2 : Int32), g4)) else none))) fun v2 g1 => pJ γ g1 x1 (0 : Int32) (v2).toInt64 fun g5 => (some ((0 : Int32), g5))
theorem t_X0_read (γ : GP) (l : Launch) (hl : l.stackTraces = false) (x0 : Nat) (x1 : Nat) (g : AH) : TrM ρI γ l ⟨"BanquetVotesLaw", "read", "(LBanquetVotes;[J)I"⟩ (wsW_ ⟨"BanquetVotesLaw", "read", "(LBanquetVotes;[J)I"⟩ method_24_code 3 (some .int) [(0, 8, 11, 13), (0, 8, 14, 15)]) 17 [.ref x0, .ref x1] g (f_X0_read γ x0 x1 g) := by
  refine TrM_ofH (by decide) (Nat.le_of_ble_eq_true rfl) ?_
  unfold f_X0_read
  change AW ρI γ l ck_X0_read g 0 [(0, .ref x0), (1, .ref x1)] [] g _
  refine r_aload_n (pc := 0) dX0_read_0 rfl 1 rfl ?_
  refine r_iconst (v := (0 : Int32)) (pc := 1) dX0_read_1 (by decide) ?_
  refine r_aload_n (pc := 2) dX0_read_2 rfl 0 rfl ?_
  refine r_cXI (pc := 3) (rest := [.int (0 : Int32), .ref x1]) (RunOK_chk (fun h => run_VX (n := 0) (c9 := 1) (As := []) (rest := [.int (0 : Int32), .ref x1]) (t_X1_read γ l hl x0 g) dX0_read_3 q2946 q2947 q2948 q108 q2949 (by decide +kernel) rfl h ⟨rfl, by decide, by decide⟩ (Nat.le_of_ble_eq_true rfl) (Nat.le_of_ble_eq_true rfl) rfl (Nat.le_of_ble_eq_true rfl))) (fun e3 g4 => ?_) (fun v2 g1 => ?_)
  · skip
    refine AX_if (fun hc => ?_) (fun _ => ?_)
    · refine x_catch [] (0, 8, 11, 13) [(0, 8, 14, 15)] rfl hc ((fun _ h => absurd h List.not_mem_nil)) (by decide) (by decide) q1201 mv645 ?_
      refine r_astore_n (pc := 11) dX0_read_11 rfl (Nat.le_of_ble_eq_true rfl) rfl ?_
      refine r_iconst (v := (1 : Int32)) (pc := 12) dX0_read_12 (by decide) ?_
      exact r_iret (pc := 13) dX0_read_13 rfl
    · skip
      refine AX_if (fun hc => ?_) (fun _ => ?_)
      · refine x_catch [((0, 8, 11, 13), "java/lang/IllegalArgumentException")] (0, 8, 14, 15) [] rfl hc (List.forall_mem_cons.mpr ⟨⟨by decide, q1201, by decide +kernel⟩, (fun _ h => absurd h List.not_mem_nil)⟩) (by decide) (by decide) q1202 mv1959 ?_
        refine r_astore_n (pc := 14) dX0_read_14 rfl (Nat.le_of_ble_eq_true rfl) rfl ?_
        refine r_iconst (v := (2 : Int32)) (pc := 15) dX0_read_15 (by decide) ?_
        exact r_iret (pc := 16) dX0_read_16 rfl
      · skip
        exact fun r h => by cases h
  · skip
    refine r_i2l (pc := 6) dX0_read_6 ?_
    refine r_last (pc := 7) dX0_read_7 (fun g5 => ?_)
    refine r_goto (tgt := 17) (pc := 8) dX0_read_8 (by decide) ?_
    refine r_iconst (v := (0 : Int32)) (pc := 17) dX0_read_17 (by decide) ?_
    exact r_iret (pc := 18) dX0_read_18 rfl
abbrev ck_X0_errorPosition : CK := ("BanquetVotesLaw", method_25_code, 3, (some .int), "errorPosition", [(0, 8, 11, 41)], 10)
def f_X0_errorPosition (γ : GP) (x0 : Nat) (x1 : Nat) (g : AH) : Option (Int32 × AH) := bXI ((if hK g x0 = 1 then f_X1_errorPosition γ x0 g else none)) (fun e3 g4 => (if hK g4 e3 = 14 then (some ((1 : Int32), g4)) else none)) fun v2 g1 => pJ γ g1 x1 (0 : Int32) (v2).toInt64 fun g5 => (some ((0 : Int32), g5))
theorem t_X0_errorPosition (γ : GP) (l : Launch) (hl : l.stackTraces = false) (x0 : Nat) (x1 : Nat) (g : AH) : TrM ρI γ l ⟨"BanquetVotesLaw", "errorPosition", "(LBanquetVotes;[J)I"⟩ (wsW_ ⟨"BanquetVotesLaw", "errorPosition", "(LBanquetVotes;[J)I"⟩ method_25_code 3 (some .int) [(0, 8, 11, 41)]) 10 [.ref x0, .ref x1] g (f_X0_errorPosition γ x0 x1 g) := by
  refine TrM_ofH (by decide) (Nat.le_of_ble_eq_true rfl) ?_
  unfold f_X0_errorPosition
  change AW ρI γ l ck_X0_errorPosition g 0 [(0, .ref x0), (1, .ref x1)] [] g _
  refine r_aload_n (pc := 0) dX0_errorPosition_0 rfl 1 rfl ?_
  refine r_iconst (v := (0 : Int32)) (pc := 1) dX0_errorPosition_1 (by decide) ?_
  refine r_aload_n (pc := 2) dX0_errorPosition_2 rfl 0 rfl ?_
  refine r_cXI (pc := 3) (rest := [.int (0 : Int32), .ref x1]) (RunOK_chk (fun h => run_V (n := 0) (c9 := 1) (As := []) (rest := [.int (0 : Int32), .ref x1]) (t_X1_errorPosition γ l hl x0 g) dX0_errorPosition_3 q3229 q3230 q3231 q108 q3232 (by decide +kernel) rfl h ⟨rfl, by decide, by decide⟩ (Nat.le_of_ble_eq_true rfl) (Nat.le_of_ble_eq_true rfl) rfl (Nat.le_of_ble_eq_true rfl))) (fun e3 g4 => ?_) (fun v2 g1 => ?_)
  · skip
    refine AX_if (fun hc => ?_) (fun _ => ?_)
    · refine x_catch [] (0, 8, 11, 41) [] rfl hc ((fun _ h => absurd h List.not_mem_nil)) (by decide) (by decide) q2176 mv870 ?_
      refine r_astore_n (pc := 11) dX0_errorPosition_11 rfl (Nat.le_of_ble_eq_true rfl) rfl ?_
      refine r_iconst (v := (1 : Int32)) (pc := 12) dX0_errorPosition_12 (by decide) ?_
      exact r_iret (pc := 13) dX0_errorPosition_13 rfl
    · skip
      exact fun r h => by cases h
  · skip
    refine r_i2l (pc := 6) dX0_errorPosition_6 ?_
    refine r_last (pc := 7) dX0_errorPosition_7 (fun g5 => ?_)
    refine r_goto (tgt := 14) (pc := 8) dX0_errorPosition_8 (by decide) ?_
    refine r_iconst (v := (0 : Int32)) (pc := 14) dX0_errorPosition_14 (by decide) ?_
    exact r_iret (pc := 15) dX0_errorPosition_15 rfl
abbrev ck_X0_refusal : CK := ("BanquetVotesLaw", method_26_code, 4, (some .int), "refusal", [(0, 9, 12, 41)], 10)
def f_X0_refusal (γ : GP) (x0 : Nat) (x1 : Int32) (x2 : Nat) (g : AH) : Option (Int32 × AH) := bXI ((if hK g x0 = 1 then f_X1_refusal γ x0 x1 g else none)) (fun e3 g4 => (if hK g4 e3 = 14 then (some ((1 : Int32), g4)) else none)) fun v2 g1 => pJ γ g1 x2 (0 : Int32) (v2).toInt64 fun g5 => (some ((0 : Int32), g5))
theorem t_X0_refusal (γ : GP) (l : Launch) (hl : l.stackTraces = false) (x0 : Nat) (x1 : Int32) (x2 : Nat) (g : AH) : TrM ρI γ l ⟨"BanquetVotesLaw", "refusal", "(LBanquetVotes;Z[J)I"⟩ (wsW_ ⟨"BanquetVotesLaw", "refusal", "(LBanquetVotes;Z[J)I"⟩ method_26_code 4 (some .int) [(0, 9, 12, 41)]) 10 [.ref x0, .int x1, .ref x2] g (f_X0_refusal γ x0 x1 x2 g) := by
  refine TrM_ofH (by decide) (Nat.le_of_ble_eq_true rfl) ?_
  unfold f_X0_refusal
  change AW ρI γ l ck_X0_refusal g 0 [(0, .ref x0), (1, .int x1), (2, .ref x2)] [] g _
  refine r_aload_n (pc := 0) dX0_refusal_0 rfl 2 rfl ?_
  refine r_iconst (v := (0 : Int32)) (pc := 1) dX0_refusal_1 (by decide) ?_
  refine r_aload_n (pc := 2) dX0_refusal_2 rfl 0 rfl ?_
  refine r_iload_n (pc := 3) dX0_refusal_3 rfl 1 rfl ?_
  refine r_cXI (pc := 4) (rest := [.int (0 : Int32), .ref x2]) (RunOK_chk (fun h => run_V (n := 1) (c9 := 1) (As := [.int x1]) (rest := [.int (0 : Int32), .ref x2]) (t_X1_refusal γ l hl x0 x1 g) dX0_refusal_4 q3236 q3237 q3238 q108 q3239 (by decide +kernel) rfl h ⟨rfl, by decide, by decide⟩ (Nat.le_of_ble_eq_true rfl) (Nat.le_of_ble_eq_true rfl) rfl (Nat.le_of_ble_eq_true rfl))) (fun e3 g4 => ?_) (fun v2 g1 => ?_)
  · skip
    refine AX_if (fun hc => ?_) (fun _ => ?_)
    · refine x_catch [] (0, 9, 12, 41) [] rfl hc ((fun _ h => absurd h List.not_mem_nil)) (by decide) (by decide) q2176 mv870 ?_
      refine r_astore_n (pc := 12) dX0_refusal_12 rfl (Nat.le_of_ble_eq_true rfl) rfl ?_
      refine r_iconst (v := (1 : Int32)) (pc := 13) dX0_refusal_13 (by decide) ?_
      exact r_iret (pc := 14) dX0_refusal_14 rfl
    · skip
      exact fun r h => by cases h
  · skip
    refine r_i2l (pc := 7) dX0_refusal_7 ?_
    refine r_last (pc := 8) dX0_refusal_8 (fun g5 => ?_)
    refine r_goto (tgt := 15) (pc := 9) dX0_refusal_9 (by decide) ?_
    refine r_iconst (v := (0 : Int32)) (pc := 15) dX0_refusal_15 (by decide) ?_
    exact r_iret (pc := 16) dX0_refusal_16 rfl
abbrev ck_X0_describe : CK := ("BanquetVotesLaw", method_27_code, 4, (some .int), "describe", [(0, 9, 12, 21)], 11)
def f_X0_describe (γ : GP) (x0 : Nat) (x1 : Int32) (x2 : Nat) (g : AH) : Option (Int32 × AH) := bXI ((if hK g x0 = 1 then f_X1_describe γ x0 x1 g else none)) (fun e3 g4 => (if hK g4 e3 = 11 then (some ((1 : Int32), g4)) else none)) fun v2 g1 => pJ γ g1 x2 (0 : Int32) (v2).toInt64 fun g5 => (some ((0 : Int32), g5))
theorem t_X0_describe (γ : GP) (l : Launch) (hl : l.stackTraces = false) (x0 : Nat) (x1 : Int32) (x2 : Nat) (g : AH) : TrM ρI γ l ⟨"BanquetVotesLaw", "describe", "(LBanquetVotes;I[J)I"⟩ (wsW_ ⟨"BanquetVotesLaw", "describe", "(LBanquetVotes;I[J)I"⟩ method_27_code 4 (some .int) [(0, 9, 12, 21)]) 11 [.ref x0, .int x1, .ref x2] g (f_X0_describe γ x0 x1 x2 g) := by
  refine TrM_ofH (by decide) (Nat.le_of_ble_eq_true rfl) ?_
  unfold f_X0_describe
  change AW ρI γ l ck_X0_describe g 0 [(0, .ref x0), (1, .int x1), (2, .ref x2)] [] g _
  refine r_aload_n (pc := 0) dX0_describe_0 rfl 2 rfl ?_
  refine r_iconst (v := (0 : Int32)) (pc := 1) dX0_describe_1 (by decide) ?_
  refine r_aload_n (pc := 2) dX0_describe_2 rfl 0 rfl ?_
  refine r_iload_n (pc := 3) dX0_describe_3 rfl 1 rfl ?_
  refine r_cXI (pc := 4) (rest := [.int (0 : Int32), .ref x2]) (RunOK_chk (fun h => run_V (n := 1) (c9 := 1) (As := [.int x1]) (rest := [.int (0 : Int32), .ref x2]) (t_X1_describe γ l hl x0 x1 g) dX0_describe_4 q3243 q3244 q3245 q108 q3246 (by decide +kernel) rfl h ⟨rfl, by decide, by decide⟩ (Nat.le_of_ble_eq_true rfl) (Nat.le_of_ble_eq_true rfl) rfl (Nat.le_of_ble_eq_true rfl))) (fun e3 g4 => ?_) (fun v2 g1 => ?_)
  · skip
    refine AX_if (fun hc => ?_) (fun _ => ?_)
    · refine x_catch [] (0, 9, 12, 21) [] rfl hc ((fun _ h => absurd h List.not_mem_nil)) (by decide) (by decide) q1975 mv408 ?_
      refine r_astore_n (pc := 12) dX0_describe_12 rfl (Nat.le_of_ble_eq_true rfl) rfl ?_
      refine r_iconst (v := (1 : Int32)) (pc := 13) dX0_describe_13 (by decide) ?_
      exact r_iret (pc := 14) dX0_describe_14 rfl
    · skip
      exact fun r h => by cases h
  · skip
    refine r_i2l (pc := 7) dX0_describe_7 ?_
    refine r_last (pc := 8) dX0_describe_8 (fun g5 => ?_)
    refine r_goto (tgt := 15) (pc := 9) dX0_describe_9 (by decide) ?_
    refine r_iconst (v := (0 : Int32)) (pc := 15) dX0_describe_15 (by decide) ?_
    exact r_iret (pc := 16) dX0_describe_16 rfl
abbrev ck_X0_written : CK := ("BanquetVotesLaw", method_28_code, 4, (some .int), "written", [(0, 9, 12, 41)], 10)
def f_X0_written (γ : GP) (x0 : Nat) (x1 : Int32) (x2 : Nat) (g : AH) : Option (Int32 × AH) := bXI ((if hK g x0 = 1 then f_X1_written γ x0 x1 g else none)) (fun e3 g4 => (if hK g4 e3 = 14 then (some ((1 : Int32), g4)) else none)) fun v2 g1 => pJ γ g1 x2 (0 : Int32) (v2).toInt64 fun g5 => (some ((0 : Int32), g5))
theorem t_X0_written (γ : GP) (l : Launch) (hl : l.stackTraces = false) (x0 : Nat) (x1 : Int32) (x2 : Nat) (g : AH) : TrM ρI γ l ⟨"BanquetVotesLaw", "written", "(LBanquetVotes;I[J)I"⟩ (wsW_ ⟨"BanquetVotesLaw", "written", "(LBanquetVotes;I[J)I"⟩ method_28_code 4 (some .int) [(0, 9, 12, 41)]) 10 [.ref x0, .int x1, .ref x2] g (f_X0_written γ x0 x1 x2 g) := by
  refine TrM_ofH (by decide) (Nat.le_of_ble_eq_true rfl) ?_
  unfold f_X0_written
  change AW ρI γ l ck_X0_written g 0 [(0, .ref x0), (1, .int x1), (2, .ref x2)] [] g _
  refine r_aload_n (pc := 0) dX0_written_0 rfl 2 rfl ?_
  refine r_iconst (v := (0 : Int32)) (pc := 1) dX0_written_1 (by decide) ?_
  refine r_aload_n (pc := 2) dX0_written_2 rfl 0 rfl ?_
  refine r_iload_n (pc := 3) dX0_written_3 rfl 1 rfl ?_
  refine r_cXI (pc := 4) (rest := [.int (0 : Int32), .ref x2]) (RunOK_chk (fun h => run_V (n := 1) (c9 := 1) (As := [.int x1]) (rest := [.int (0 : Int32), .ref x2]) (t_X1_written γ l hl x0 x1 g) dX0_written_4 q3276 q3277 q3278 q108 q3279 (by decide +kernel) rfl h ⟨rfl, by decide, by decide⟩ (Nat.le_of_ble_eq_true rfl) (Nat.le_of_ble_eq_true rfl) rfl (Nat.le_of_ble_eq_true rfl))) (fun e3 g4 => ?_) (fun v2 g1 => ?_)
  · skip
    refine AX_if (fun hc => ?_) (fun _ => ?_)
    · refine x_catch [] (0, 9, 12, 41) [] rfl hc ((fun _ h => absurd h List.not_mem_nil)) (by decide) (by decide) q2176 mv870 ?_
      refine r_astore_n (pc := 12) dX0_written_12 rfl (Nat.le_of_ble_eq_true rfl) rfl ?_
      refine r_iconst (v := (1 : Int32)) (pc := 13) dX0_written_13 (by decide) ?_
      exact r_iret (pc := 14) dX0_written_14 rfl
    · skip
      exact fun r h => by cases h
  · skip
    refine r_i2l (pc := 7) dX0_written_7 ?_
    refine r_last (pc := 8) dX0_written_8 (fun g5 => ?_)
    refine r_goto (tgt := 15) (pc := 9) dX0_written_9 (by decide) ?_
    refine r_iconst (v := (0 : Int32)) (pc := 15) dX0_written_15 (by decide) ?_
    exact r_iret (pc := 16) dX0_written_16 rfl
abbrev ck_X0_account : CK := ("BanquetVotesLaw", method_29_code, 4, (some .int), "account", [(0, 9, 12, 13)], 9)
def f_X0_account (γ : GP) (x0 : Nat) (x1 : Int32) (x2 : Nat) (g : AH) : Option (Int32 × AH) := bXI ((if hK g x0 = 1 then f_X1_account γ x0 x1 g else none)) (fun e3 g4 => (if hK g4 e3 = 9 then (some ((1 : Int32), g4)) else none)) fun v2 g1 => pJ γ g1 x2 (0 : Int32) (v2).toInt64 fun g5 => (some ((0 : Int32), g5))
theorem t_X0_account (γ : GP) (l : Launch) (hl : l.stackTraces = false) (x0 : Nat) (x1 : Int32) (x2 : Nat) (g : AH) : TrM ρI γ l ⟨"BanquetVotesLaw", "account", "(LBanquetVotes;I[J)I"⟩ (wsW_ ⟨"BanquetVotesLaw", "account", "(LBanquetVotes;I[J)I"⟩ method_29_code 4 (some .int) [(0, 9, 12, 13)]) 9 [.ref x0, .int x1, .ref x2] g (f_X0_account γ x0 x1 x2 g) := by
  refine TrM_ofH (by decide) (Nat.le_of_ble_eq_true rfl) ?_
  unfold f_X0_account
  change AW ρI γ l ck_X0_account g 0 [(0, .ref x0), (1, .int x1), (2, .ref x2)] [] g _
  refine r_aload_n (pc := 0) dX0_account_0 rfl 2 rfl ?_
  refine r_iconst (v := (0 : Int32)) (pc := 1) dX0_account_1 (by decide) ?_
  refine r_aload_n (pc := 2) dX0_account_2 rfl 0 rfl ?_
  refine r_iload_n (pc := 3) dX0_account_3 rfl 1 rfl ?_
  refine r_cXI (pc := 4) (rest := [.int (0 : Int32), .ref x2]) (RunOK_chk (fun h => run_V (n := 1) (c9 := 1) (As := [.int x1]) (rest := [.int (0 : Int32), .ref x2]) (t_X1_account γ l hl x0 x1 g) dX0_account_4 q3283 q3284 q3285 q108 q3286 (by decide +kernel) rfl h ⟨rfl, by decide, by decide⟩ (Nat.le_of_ble_eq_true rfl) (Nat.le_of_ble_eq_true rfl) rfl (Nat.le_of_ble_eq_true rfl))) (fun e3 g4 => ?_) (fun v2 g1 => ?_)
  · skip
    refine AX_if (fun hc => ?_) (fun _ => ?_)
    · refine x_catch [] (0, 9, 12, 13) [] rfl hc ((fun _ h => absurd h List.not_mem_nil)) (by decide) (by decide) q1201 mv645 ?_
      refine r_astore_n (pc := 12) dX0_account_12 rfl (Nat.le_of_ble_eq_true rfl) rfl ?_
      refine r_iconst (v := (1 : Int32)) (pc := 13) dX0_account_13 (by decide) ?_
      exact r_iret (pc := 14) dX0_account_14 rfl
    · skip
      exact fun r h => by cases h
  · skip
    refine r_i2l (pc := 7) dX0_account_7 ?_
    refine r_last (pc := 8) dX0_account_8 (fun g5 => ?_)
    refine r_goto (tgt := 15) (pc := 9) dX0_account_9 (by decide) ?_
    refine r_iconst (v := (0 : Int32)) (pc := 15) dX0_account_15 (by decide) ?_
    exact r_iret (pc := 16) dX0_account_16 rfl
abbrev ck_X0_meanWait : CK := ("BanquetVotesLaw", method_30_code, 3, (some .int), "meanWait", [(0, 7, 10, 113)], 9)
def f_X0_meanWait (γ : GP) (x0 : Nat) (x1 : Nat) (g : AH) : Option (Int32 × AH) := bXD ((if hK g x0 = 1 then f_X1_meanWait γ x0 g else none)) (fun e3 g4 => (if hK g4 e3 = 36 then (some ((1 : Int32), g4)) else none)) fun v2 g1 => pD γ g1 x1 (0 : Int32) v2 fun g5 => (some ((0 : Int32), g5))
theorem t_X0_meanWait (γ : GP) (l : Launch) (hl : l.stackTraces = false) (x0 : Nat) (x1 : Nat) (g : AH) : TrM ρI γ l ⟨"BanquetVotesLaw", "meanWait", "(LBanquetVotes;[D)I"⟩ (wsW_ ⟨"BanquetVotesLaw", "meanWait", "(LBanquetVotes;[D)I"⟩ method_30_code 3 (some .int) [(0, 7, 10, 113)]) 9 [.ref x0, .ref x1] g (f_X0_meanWait γ x0 x1 g) := by
  refine TrM_ofH (by decide) (Nat.le_of_ble_eq_true rfl) ?_
  unfold f_X0_meanWait
  change AW ρI γ l ck_X0_meanWait g 0 [(0, .ref x0), (1, .ref x1)] [] g _
  refine r_aload_n (pc := 0) dX0_meanWait_0 rfl 1 rfl ?_
  refine r_iconst (v := (0 : Int32)) (pc := 1) dX0_meanWait_1 (by decide) ?_
  refine r_aload_n (pc := 2) dX0_meanWait_2 rfl 0 rfl ?_
  refine r_cXD (pc := 3) (rest := [.int (0 : Int32), .ref x1]) (RunOK_chk (fun h => run_V (n := 0) (c9 := 1) (As := []) (rest := [.int (0 : Int32), .ref x1]) (t_X1_meanWait γ l hl x0 g) dX0_meanWait_3 q3322 q3323 q3324 q108 q3325 (by decide +kernel) rfl h ⟨rfl, by decide, by decide⟩ (Nat.le_of_ble_eq_true rfl) (Nat.le_of_ble_eq_true rfl) rfl (Nat.le_of_ble_eq_true rfl))) (fun e3 g4 => ?_) (fun v2 g1 => ?_)
  · skip
    refine AX_if (fun hc => ?_) (fun _ => ?_)
    · refine x_catch [] (0, 7, 10, 113) [] rfl hc ((fun _ h => absurd h List.not_mem_nil)) (by decide) (by decide) q3308 mv3320 ?_
      refine r_astore_n (pc := 10) dX0_meanWait_10 rfl (Nat.le_of_ble_eq_true rfl) rfl ?_
      refine r_iconst (v := (1 : Int32)) (pc := 11) dX0_meanWait_11 (by decide) ?_
      exact r_iret (pc := 12) dX0_meanWait_12 rfl
    · skip
      exact fun r h => by cases h
  · skip
    refine r_dast (pc := 6) dX0_meanWait_6 (fun g5 => ?_)
    refine r_goto (tgt := 13) (pc := 7) dX0_meanWait_7 (by decide) ?_
    refine r_iconst (v := (0 : Int32)) (pc := 13) dX0_meanWait_13 (by decide) ?_
    exact r_iret (pc := 14) dX0_meanWait_14 rfl
abbrev ck_X0_servedShare : CK := ("BanquetVotesLaw", method_31_code, 3, (some .int), "servedShare", [(0, 8, 11, 113)], 9)
def f_X0_servedShare (γ : GP) (x0 : Nat) (x1 : Nat) (g : AH) : Option (Int32 × AH) := bXF ((if hK g x0 = 1 then f_X1_servedShare γ x0 g else none)) (fun e3 g4 => (if hK g4 e3 = 36 then (some ((1 : Int32), g4)) else none)) fun v2 g1 => (if (FP.f2d v2) &&& 0x7fffffffffffffff ≤ 0x7ff0000000000000 then pD γ g1 x1 (0 : Int32) (FP.f2d v2) fun g5 => (some ((0 : Int32), g5)) else none)
theorem t_X0_servedShare (γ : GP) (l : Launch) (hl : l.stackTraces = false) (x0 : Nat) (x1 : Nat) (g : AH) : TrM ρI γ l ⟨"BanquetVotesLaw", "servedShare", "(LBanquetVotes;[D)I"⟩ (wsW_ ⟨"BanquetVotesLaw", "servedShare", "(LBanquetVotes;[D)I"⟩ method_31_code 3 (some .int) [(0, 8, 11, 113)]) 9 [.ref x0, .ref x1] g (f_X0_servedShare γ x0 x1 g) := by
  refine TrM_ofH (by decide) (Nat.le_of_ble_eq_true rfl) ?_
  unfold f_X0_servedShare
  change AW ρI γ l ck_X0_servedShare g 0 [(0, .ref x0), (1, .ref x1)] [] g _
  refine r_aload_n (pc := 0) dX0_servedShare_0 rfl 1 rfl ?_
  refine r_iconst (v := (0 : Int32)) (pc := 1) dX0_servedShare_1 (by decide) ?_
  refine r_aload_n (pc := 2) dX0_servedShare_2 rfl 0 rfl ?_
  refine r_cXF (pc := 3) (rest := [.int (0 : Int32), .ref x1]) (RunOK_chk (fun h => run_V (n := 0) (c9 := 1) (As := []) (rest := [.int (0 : Int32), .ref x1]) (t_X1_servedShare γ l hl x0 g) dX0_servedShare_3 q3336 q3337 q3338 q108 q3339 (by decide +kernel) rfl h ⟨rfl, by decide, by decide⟩ (Nat.le_of_ble_eq_true rfl) (Nat.le_of_ble_eq_true rfl) rfl (Nat.le_of_ble_eq_true rfl))) (fun e3 g4 => ?_) (fun v2 g1 => ?_)
  · skip
    refine AX_if (fun hc => ?_) (fun _ => ?_)
    · refine x_catch [] (0, 8, 11, 113) [] rfl hc ((fun _ h => absurd h List.not_mem_nil)) (by decide) (by decide) q3308 mv3320 ?_
      refine r_astore_n (pc := 11) dX0_servedShare_11 rfl (Nat.le_of_ble_eq_true rfl) rfl ?_
      refine r_iconst (v := (1 : Int32)) (pc := 12) dX0_servedShare_12 (by decide) ?_
      exact r_iret (pc := 13) dX0_servedShare_13 rfl
    · skip
      exact fun r h => by cases h
  · skip
    refine r_f2d (pc := 6) dX0_servedShare_6 ?_
    refine r_dast (pc := 7) dX0_servedShare_7 (fun g5 => ?_)
    refine r_goto (tgt := 14) (pc := 8) dX0_servedShare_8 (by decide) ?_
    refine r_iconst (v := (0 : Int32)) (pc := 14) dX0_servedShare_14 (by decide) ?_
    exact r_iret (pc := 15) dX0_servedShare_15 rfl
abbrev ck_X0_undo : CK := ("BanquetVotesLaw", method_32_code, 3, (some .int), "undo", [(0, 8, 11, 87)], 10)
def f_X0_undo (γ : GP) (x0 : Nat) (x1 : Nat) (g : AH) : Option (Int32 × AH) := bXI ((if hK g x0 = 1 then f_X1_undo γ x0 g else none)) (fun e3 g4 => (if hK g4 e3 = 33 then (some ((1 : Int32), g4)) else none)) fun v2 g1 => pJ γ g1 x1 (0 : Int32) (v2).toInt64 fun g5 => (some ((0 : Int32), g5))
theorem t_X0_undo (γ : GP) (l : Launch) (hl : l.stackTraces = false) (x0 : Nat) (x1 : Nat) (g : AH) : TrM ρI γ l ⟨"BanquetVotesLaw", "undo", "(LBanquetVotes;[J)I"⟩ (wsW_ ⟨"BanquetVotesLaw", "undo", "(LBanquetVotes;[J)I"⟩ method_32_code 3 (some .int) [(0, 8, 11, 87)]) 10 [.ref x0, .ref x1] g (f_X0_undo γ x0 x1 g) := by
  refine TrM_ofH (by decide) (Nat.le_of_ble_eq_true rfl) ?_
  unfold f_X0_undo
  change AW ρI γ l ck_X0_undo g 0 [(0, .ref x0), (1, .ref x1)] [] g _
  refine r_aload_n (pc := 0) dX0_undo_0 rfl 1 rfl ?_
  refine r_iconst (v := (0 : Int32)) (pc := 1) dX0_undo_1 (by decide) ?_
  refine r_aload_n (pc := 2) dX0_undo_2 rfl 0 rfl ?_
  refine r_cXI (pc := 3) (rest := [.int (0 : Int32), .ref x1]) (RunOK_chk (fun h => run_V (n := 0) (c9 := 1) (As := []) (rest := [.int (0 : Int32), .ref x1]) (t_X1_undo γ l hl x0 g) dX0_undo_3 q3344 q3345 q3346 q108 q3347 (by decide +kernel) rfl h ⟨rfl, by decide, by decide⟩ (Nat.le_of_ble_eq_true rfl) (Nat.le_of_ble_eq_true rfl) rfl (Nat.le_of_ble_eq_true rfl))) (fun e3 g4 => ?_) (fun v2 g1 => ?_)
  · skip
    refine AX_if (fun hc => ?_) (fun _ => ?_)
    · refine x_catch [] (0, 8, 11, 87) [] rfl hc ((fun _ h => absurd h List.not_mem_nil)) (by decide) (by decide) q2899 mv2910 ?_
      refine r_astore_n (pc := 11) dX0_undo_11 rfl (Nat.le_of_ble_eq_true rfl) rfl ?_
      refine r_iconst (v := (1 : Int32)) (pc := 12) dX0_undo_12 (by decide) ?_
      exact r_iret (pc := 13) dX0_undo_13 rfl
    · skip
      exact fun r h => by cases h
  · skip
    refine r_i2l (pc := 6) dX0_undo_6 ?_
    refine r_last (pc := 7) dX0_undo_7 (fun g5 => ?_)
    refine r_goto (tgt := 14) (pc := 8) dX0_undo_8 (by decide) ?_
    refine r_iconst (v := (0 : Int32)) (pc := 14) dX0_undo_14 (by decide) ?_
    exact r_iret (pc := 15) dX0_undo_15 rfl
abbrev ck_X0_restore : CK := ("BanquetVotesLaw", method_33_code, 3, (some .int), "restore", [(0, 8, 11, 87)], 10)
def f_X0_restore (γ : GP) (x0 : Nat) (x1 : Nat) (g : AH) : Option (Int32 × AH) := bXI ((if hK g x0 = 1 then f_X1_restore γ x0 g else none)) (fun e3 g4 => (if hK g4 e3 = 33 then (some ((1 : Int32), g4)) else none)) fun v2 g1 => pJ γ g1 x1 (0 : Int32) (v2).toInt64 fun g5 => (some ((0 : Int32), g5))
theorem t_X0_restore (γ : GP) (l : Launch) (hl : l.stackTraces = false) (x0 : Nat) (x1 : Nat) (g : AH) : TrM ρI γ l ⟨"BanquetVotesLaw", "restore", "(LBanquetVotes;[J)I"⟩ (wsW_ ⟨"BanquetVotesLaw", "restore", "(LBanquetVotes;[J)I"⟩ method_33_code 3 (some .int) [(0, 8, 11, 87)]) 10 [.ref x0, .ref x1] g (f_X0_restore γ x0 x1 g) := by
  refine TrM_ofH (by decide) (Nat.le_of_ble_eq_true rfl) ?_
  unfold f_X0_restore
  change AW ρI γ l ck_X0_restore g 0 [(0, .ref x0), (1, .ref x1)] [] g _
  refine r_aload_n (pc := 0) dX0_restore_0 rfl 1 rfl ?_
  refine r_iconst (v := (0 : Int32)) (pc := 1) dX0_restore_1 (by decide) ?_
  refine r_aload_n (pc := 2) dX0_restore_2 rfl 0 rfl ?_
  refine r_cXI (pc := 3) (rest := [.int (0 : Int32), .ref x1]) (RunOK_chk (fun h => run_V (n := 0) (c9 := 1) (As := []) (rest := [.int (0 : Int32), .ref x1]) (t_X1_restore γ l hl x0 g) dX0_restore_3 q3365 q3366 q3367 q108 q3368 (by decide +kernel) rfl h ⟨rfl, by decide, by decide⟩ (Nat.le_of_ble_eq_true rfl) (Nat.le_of_ble_eq_true rfl) rfl (Nat.le_of_ble_eq_true rfl))) (fun e3 g4 => ?_) (fun v2 g1 => ?_)
  · skip
    refine AX_if (fun hc => ?_) (fun _ => ?_)
    · refine x_catch [] (0, 8, 11, 87) [] rfl hc ((fun _ h => absurd h List.not_mem_nil)) (by decide) (by decide) q2899 mv2910 ?_
      refine r_astore_n (pc := 11) dX0_restore_11 rfl (Nat.le_of_ble_eq_true rfl) rfl ?_
      refine r_iconst (v := (1 : Int32)) (pc := 12) dX0_restore_12 (by decide) ?_
      exact r_iret (pc := 13) dX0_restore_13 rfl
    · skip
      exact fun r h => by cases h
  · skip
    refine r_i2l (pc := 6) dX0_restore_6 ?_
    refine r_last (pc := 7) dX0_restore_7 (fun g5 => ?_)
    refine r_goto (tgt := 14) (pc := 8) dX0_restore_8 (by decide) ?_
    refine r_iconst (v := (0 : Int32)) (pc := 14) dX0_restore_14 (by decide) ?_
    exact r_iret (pc := 15) dX0_restore_15 rfl
