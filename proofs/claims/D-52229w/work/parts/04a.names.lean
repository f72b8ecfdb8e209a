/-! GridTableLaw -/
set_option maxRecDepth 100000
def RX0 : String := "GridTableLaw"
abbrev cX0_feed : ByteArray := method_3_code
def yX0_feed : MethodName := ⟨RX0, "feed", "(LGridTable;IIIII[J)I"⟩
def dkwX0_feed_1 : List UInt8 := [172]
abbrev dktX0_feed_1 : List UInt8 := dkwX0_feed_1 ++ []
def dkwX0_feed_0 : List UInt8 := [25, 6, 3, 42, 27, 28, 29, 21, 4, 21, 5, 182, 0, 7, 133, 80, 167, 0, 7, 58, 7, 4, 172, 3]
abbrev dktX0_feed_0 : List UInt8 := dkwX0_feed_0 ++ dktX0_feed_1
theorem dksX0_feed_0 : cX0_feed.data.toList.drop 0 = dktX0_feed_0 := by decide +kernel
theorem dksX0_feed_1 : cX0_feed.data.toList.drop 24 = dktX0_feed_1 := dk_seg dksX0_feed_0 24 rfl rfl
theorem dX0_feed_0 : decode cX0_feed 0 = .ok (.aload 6, 2) := dk_25 6 (dk_at dksX0_feed_0 0 rfl rfl)
theorem dX0_feed_2 : decode cX0_feed 2 = .ok (.iconst 0, 1) := dk_3 (dk_at dksX0_feed_0 2 rfl rfl)
theorem dX0_feed_3 : decode cX0_feed 3 = .ok (.aload_n 0, 1) := dk_42 (dk_at dksX0_feed_0 3 rfl rfl)
theorem dX0_feed_4 : decode cX0_feed 4 = .ok (.iload_n 1, 1) := dk_27 (dk_at dksX0_feed_0 4 rfl rfl)
theorem dX0_feed_5 : decode cX0_feed 5 = .ok (.iload_n 2, 1) := dk_28 (dk_at dksX0_feed_0 5 rfl rfl)
theorem dX0_feed_6 : decode cX0_feed 6 = .ok (.iload_n 3, 1) := dk_29 (dk_at dksX0_feed_0 6 rfl rfl)
theorem dX0_feed_7 : decode cX0_feed 7 = .ok (.iload 4, 2) := dk_21 4 (dk_at dksX0_feed_0 7 rfl rfl)
theorem dX0_feed_9 : decode cX0_feed 9 = .ok (.iload 5, 2) := dk_21 5 (dk_at dksX0_feed_0 9 rfl rfl)
theorem dX0_feed_11 : decode cX0_feed 11 = .ok (.invokevirtual 7, 3) := dk_182 0 7 (dk_at dksX0_feed_0 11 rfl rfl)
theorem dX0_feed_14 : decode cX0_feed 14 = .ok (.i2l, 1) := dk_133 (dk_at dksX0_feed_0 14 rfl rfl)
theorem dX0_feed_15 : decode cX0_feed 15 = .ok (.lastore, 1) := dk_80 (dk_at dksX0_feed_0 15 rfl rfl)
theorem dX0_feed_16 : decode cX0_feed 16 = .ok (.goto 7, 3) := dk_167 0 7 (dk_at dksX0_feed_0 16 rfl rfl)
theorem dX0_feed_19 : decode cX0_feed 19 = .ok (.astore 7, 2) := dk_58 7 (dk_at dksX0_feed_0 19 rfl rfl)
theorem dX0_feed_21 : decode cX0_feed 21 = .ok (.iconst 1, 1) := dk_4 (dk_at dksX0_feed_0 21 rfl rfl)
theorem dX0_feed_22 : decode cX0_feed 22 = .ok (.ireturn, 1) := dk_172 (dk_at dksX0_feed_0 22 rfl rfl)
theorem dX0_feed_23 : decode cX0_feed 23 = .ok (.iconst 0, 1) := dk_3 (dk_at dksX0_feed_0 23 rfl rfl)
theorem dX0_feed_24 : decode cX0_feed 24 = .ok (.ireturn, 1) := dk_172 (dk_at dksX0_feed_1 0 rfl rfl)
abbrev cX0_trim : ByteArray := method_4_code
def yX0_trim : MethodName := ⟨RX0, "trim", "(LGridTable;I[J)I"⟩
def dkwX0_trim_0 : List UInt8 := [44, 3, 42, 27, 182, 0, 15, 133, 80, 167, 0, 6, 78, 4, 172, 3, 172]
abbrev dktX0_trim_0 : List UInt8 := dkwX0_trim_0 ++ []
theorem dksX0_trim_0 : cX0_trim.data.toList.drop 0 = dktX0_trim_0 := by decide +kernel
theorem dX0_trim_0 : decode cX0_trim 0 = .ok (.aload_n 2, 1) := dk_44 (dk_at dksX0_trim_0 0 rfl rfl)
theorem dX0_trim_1 : decode cX0_trim 1 = .ok (.iconst 0, 1) := dk_3 (dk_at dksX0_trim_0 1 rfl rfl)
theorem dX0_trim_2 : decode cX0_trim 2 = .ok (.aload_n 0, 1) := dk_42 (dk_at dksX0_trim_0 2 rfl rfl)
theorem dX0_trim_3 : decode cX0_trim 3 = .ok (.iload_n 1, 1) := dk_27 (dk_at dksX0_trim_0 3 rfl rfl)
theorem dX0_trim_4 : decode cX0_trim 4 = .ok (.invokevirtual 15, 3) := dk_182 0 15 (dk_at dksX0_trim_0 4 rfl rfl)
theorem dX0_trim_7 : decode cX0_trim 7 = .ok (.i2l, 1) := dk_133 (dk_at dksX0_trim_0 7 rfl rfl)
theorem dX0_trim_8 : decode cX0_trim 8 = .ok (.lastore, 1) := dk_80 (dk_at dksX0_trim_0 8 rfl rfl)
theorem dX0_trim_9 : decode cX0_trim 9 = .ok (.goto 6, 3) := dk_167 0 6 (dk_at dksX0_trim_0 9 rfl rfl)
theorem dX0_trim_12 : decode cX0_trim 12 = .ok (.astore_n 3, 1) := dk_78 (dk_at dksX0_trim_0 12 rfl rfl)
theorem dX0_trim_13 : decode cX0_trim 13 = .ok (.iconst 1, 1) := dk_4 (dk_at dksX0_trim_0 13 rfl rfl)
theorem dX0_trim_14 : decode cX0_trim 14 = .ok (.ireturn, 1) := dk_172 (dk_at dksX0_trim_0 14 rfl rfl)
theorem dX0_trim_15 : decode cX0_trim 15 = .ok (.iconst 0, 1) := dk_3 (dk_at dksX0_trim_0 15 rfl rfl)
theorem dX0_trim_16 : decode cX0_trim 16 = .ok (.ireturn, 1) := dk_172 (dk_at dksX0_trim_0 16 rfl rfl)
abbrev cX0_count : ByteArray := method_5_code
def yX0_count : MethodName := ⟨RX0, "count", "(LGridTable;I[J)I"⟩
def dkwX0_count_0 : List UInt8 := [44, 3, 42, 27, 182, 0, 21, 133, 80, 167, 0, 6, 78, 4, 172, 3, 172]
abbrev dktX0_count_0 : List UInt8 := dkwX0_count_0 ++ []
theorem dksX0_count_0 : cX0_count.data.toList.drop 0 = dktX0_count_0 := by decide +kernel
theorem dX0_count_0 : decode cX0_count 0 = .ok (.aload_n 2, 1) := dk_44 (dk_at dksX0_count_0 0 rfl rfl)
theorem dX0_count_1 : decode cX0_count 1 = .ok (.iconst 0, 1) := dk_3 (dk_at dksX0_count_0 1 rfl rfl)
theorem dX0_count_2 : decode cX0_count 2 = .ok (.aload_n 0, 1) := dk_42 (dk_at dksX0_count_0 2 rfl rfl)
theorem dX0_count_3 : decode cX0_count 3 = .ok (.iload_n 1, 1) := dk_27 (dk_at dksX0_count_0 3 rfl rfl)
theorem dX0_count_4 : decode cX0_count 4 = .ok (.invokevirtual 21, 3) := dk_182 0 21 (dk_at dksX0_count_0 4 rfl rfl)
theorem dX0_count_7 : decode cX0_count 7 = .ok (.i2l, 1) := dk_133 (dk_at dksX0_count_0 7 rfl rfl)
theorem dX0_count_8 : decode cX0_count 8 = .ok (.lastore, 1) := dk_80 (dk_at dksX0_count_0 8 rfl rfl)
theorem dX0_count_9 : decode cX0_count 9 = .ok (.goto 6, 3) := dk_167 0 6 (dk_at dksX0_count_0 9 rfl rfl)
theorem dX0_count_12 : decode cX0_count 12 = .ok (.astore_n 3, 1) := dk_78 (dk_at dksX0_count_0 12 rfl rfl)
theorem dX0_count_13 : decode cX0_count 13 = .ok (.iconst 1, 1) := dk_4 (dk_at dksX0_count_0 13 rfl rfl)
theorem dX0_count_14 : decode cX0_count 14 = .ok (.ireturn, 1) := dk_172 (dk_at dksX0_count_0 14 rfl rfl)
theorem dX0_count_15 : decode cX0_count 15 = .ok (.iconst 0, 1) := dk_3 (dk_at dksX0_count_0 15 rfl rfl)
theorem dX0_count_16 : decode cX0_count 16 = .ok (.ireturn, 1) := dk_172 (dk_at dksX0_count_0 16 rfl rfl)
abbrev cX0_point : ByteArray := method_6_code
def yX0_point : MethodName := ⟨RX0, "point", "(LGridTable;II[J)I"⟩
def dkwX0_point_0 : List UInt8 := [45, 3, 42, 27, 28, 182, 0, 26, 133, 80, 167, 0, 7, 58, 4, 4, 172, 3, 172]
abbrev dktX0_point_0 : List UInt8 := dkwX0_point_0 ++ []
theorem dksX0_point_0 : cX0_point.data.toList.drop 0 = dktX0_point_0 := by decide +kernel
theorem dX0_point_0 : decode cX0_point 0 = .ok (.aload_n 3, 1) := dk_45 (dk_at dksX0_point_0 0 rfl rfl)
theorem dX0_point_1 : decode cX0_point 1 = .ok (.iconst 0, 1) := dk_3 (dk_at dksX0_point_0 1 rfl rfl)
theorem dX0_point_2 : decode cX0_point 2 = .ok (.aload_n 0, 1) := dk_42 (dk_at dksX0_point_0 2 rfl rfl)
theorem dX0_point_3 : decode cX0_point 3 = .ok (.iload_n 1, 1) := dk_27 (dk_at dksX0_point_0 3 rfl rfl)
theorem dX0_point_4 : decode cX0_point 4 = .ok (.iload_n 2, 1) := dk_28 (dk_at dksX0_point_0 4 rfl rfl)
theorem dX0_point_5 : decode cX0_point 5 = .ok (.invokevirtual 26, 3) := dk_182 0 26 (dk_at dksX0_point_0 5 rfl rfl)
theorem dX0_point_8 : decode cX0_point 8 = .ok (.i2l, 1) := dk_133 (dk_at dksX0_point_0 8 rfl rfl)
theorem dX0_point_9 : decode cX0_point 9 = .ok (.lastore, 1) := dk_80 (dk_at dksX0_point_0 9 rfl rfl)
theorem dX0_point_10 : decode cX0_point 10 = .ok (.goto 7, 3) := dk_167 0 7 (dk_at dksX0_point_0 10 rfl rfl)
theorem dX0_point_13 : decode cX0_point 13 = .ok (.astore 4, 2) := dk_58 4 (dk_at dksX0_point_0 13 rfl rfl)
theorem dX0_point_15 : decode cX0_point 15 = .ok (.iconst 1, 1) := dk_4 (dk_at dksX0_point_0 15 rfl rfl)
theorem dX0_point_16 : decode cX0_point 16 = .ok (.ireturn, 1) := dk_172 (dk_at dksX0_point_0 16 rfl rfl)
theorem dX0_point_17 : decode cX0_point 17 = .ok (.iconst 0, 1) := dk_3 (dk_at dksX0_point_0 17 rfl rfl)
theorem dX0_point_18 : decode cX0_point 18 = .ok (.ireturn, 1) := dk_172 (dk_at dksX0_point_0 18 rfl rfl)
abbrev cX0_shape : ByteArray := method_7_code
def yX0_shape : MethodName := ⟨RX0, "shape", "(LGridTable;II[J)I"⟩
def dkwX0_shape_0 : List UInt8 := [45, 3, 42, 27, 28, 182, 0, 30, 133, 80, 167, 0, 7, 58, 4, 4, 172, 3, 172]
abbrev dktX0_shape_0 : List UInt8 := dkwX0_shape_0 ++ []
theorem dksX0_shape_0 : cX0_shape.data.toList.drop 0 = dktX0_shape_0 := by decide +kernel
theorem dX0_shape_0 : decode cX0_shape 0 = .ok (.aload_n 3, 1) := dk_45 (dk_at dksX0_shape_0 0 rfl rfl)
theorem dX0_shape_1 : decode cX0_shape 1 = .ok (.iconst 0, 1) := dk_3 (dk_at dksX0_shape_0 1 rfl rfl)
theorem dX0_shape_2 : decode cX0_shape 2 = .ok (.aload_n 0, 1) := dk_42 (dk_at dksX0_shape_0 2 rfl rfl)
theorem dX0_shape_3 : decode cX0_shape 3 = .ok (.iload_n 1, 1) := dk_27 (dk_at dksX0_shape_0 3 rfl rfl)
theorem dX0_shape_4 : decode cX0_shape 4 = .ok (.iload_n 2, 1) := dk_28 (dk_at dksX0_shape_0 4 rfl rfl)
theorem dX0_shape_5 : decode cX0_shape 5 = .ok (.invokevirtual 30, 3) := dk_182 0 30 (dk_at dksX0_shape_0 5 rfl rfl)
theorem dX0_shape_8 : decode cX0_shape 8 = .ok (.i2l, 1) := dk_133 (dk_at dksX0_shape_0 8 rfl rfl)
theorem dX0_shape_9 : decode cX0_shape 9 = .ok (.lastore, 1) := dk_80 (dk_at dksX0_shape_0 9 rfl rfl)
theorem dX0_shape_10 : decode cX0_shape 10 = .ok (.goto 7, 3) := dk_167 0 7 (dk_at dksX0_shape_0 10 rfl rfl)
theorem dX0_shape_13 : decode cX0_shape 13 = .ok (.astore 4, 2) := dk_58 4 (dk_at dksX0_shape_0 13 rfl rfl)
theorem dX0_shape_15 : decode cX0_shape 15 = .ok (.iconst 1, 1) := dk_4 (dk_at dksX0_shape_0 15 rfl rfl)
theorem dX0_shape_16 : decode cX0_shape 16 = .ok (.ireturn, 1) := dk_172 (dk_at dksX0_shape_0 16 rfl rfl)
theorem dX0_shape_17 : decode cX0_shape 17 = .ok (.iconst 0, 1) := dk_3 (dk_at dksX0_shape_0 17 rfl rfl)
theorem dX0_shape_18 : decode cX0_shape 18 = .ok (.ireturn, 1) := dk_172 (dk_at dksX0_shape_0 18 rfl rfl)
abbrev cX0_corner : ByteArray := method_8_code
def yX0_corner : MethodName := ⟨RX0, "corner", "(LGridTable;II[J)I"⟩
def dkwX0_corner_0 : List UInt8 := [45, 3, 42, 27, 28, 182, 0, 33, 133, 80, 167, 0, 7, 58, 4, 4, 172, 3, 172]
abbrev dktX0_corner_0 : List UInt8 := dkwX0_corner_0 ++ []
theorem dksX0_corner_0 : cX0_corner.data.toList.drop 0 = dktX0_corner_0 := by decide +kernel
theorem dX0_corner_0 : decode cX0_corner 0 = .ok (.aload_n 3, 1) := dk_45 (dk_at dksX0_corner_0 0 rfl rfl)
theorem dX0_corner_1 : decode cX0_corner 1 = .ok (.iconst 0, 1) := dk_3 (dk_at dksX0_corner_0 1 rfl rfl)
theorem dX0_corner_2 : decode cX0_corner 2 = .ok (.aload_n 0, 1) := dk_42 (dk_at dksX0_corner_0 2 rfl rfl)
theorem dX0_corner_3 : decode cX0_corner 3 = .ok (.iload_n 1, 1) := dk_27 (dk_at dksX0_corner_0 3 rfl rfl)
theorem dX0_corner_4 : decode cX0_corner 4 = .ok (.iload_n 2, 1) := dk_28 (dk_at dksX0_corner_0 4 rfl rfl)
theorem dX0_corner_5 : decode cX0_corner 5 = .ok (.invokevirtual 33, 3) := dk_182 0 33 (dk_at dksX0_corner_0 5 rfl rfl)
theorem dX0_corner_8 : decode cX0_corner 8 = .ok (.i2l, 1) := dk_133 (dk_at dksX0_corner_0 8 rfl rfl)
theorem dX0_corner_9 : decode cX0_corner 9 = .ok (.lastore, 1) := dk_80 (dk_at dksX0_corner_0 9 rfl rfl)
theorem dX0_corner_10 : decode cX0_corner 10 = .ok (.goto 7, 3) := dk_167 0 7 (dk_at dksX0_corner_0 10 rfl rfl)
theorem dX0_corner_13 : decode cX0_corner 13 = .ok (.astore 4, 2) := dk_58 4 (dk_at dksX0_corner_0 13 rfl rfl)
theorem dX0_corner_15 : decode cX0_corner 15 = .ok (.iconst 1, 1) := dk_4 (dk_at dksX0_corner_0 15 rfl rfl)
theorem dX0_corner_16 : decode cX0_corner 16 = .ok (.ireturn, 1) := dk_172 (dk_at dksX0_corner_0 16 rfl rfl)
theorem dX0_corner_17 : decode cX0_corner 17 = .ok (.iconst 0, 1) := dk_3 (dk_at dksX0_corner_0 17 rfl rfl)
theorem dX0_corner_18 : decode cX0_corner 18 = .ok (.ireturn, 1) := dk_172 (dk_at dksX0_corner_0 18 rfl rfl)
abbrev cX0_lies : ByteArray := method_9_code
def yX0_lies : MethodName := ⟨RX0, "lies", "(LGridTable;II[J)I"⟩
def dkwX0_lies_0 : List UInt8 := [45, 3, 42, 27, 28, 182, 0, 36, 133, 80, 167, 0, 7, 58, 4, 4, 172, 3, 172]
abbrev dktX0_lies_0 : List UInt8 := dkwX0_lies_0 ++ []
theorem dksX0_lies_0 : cX0_lies.data.toList.drop 0 = dktX0_lies_0 := by decide +kernel
theorem dX0_lies_0 : decode cX0_lies 0 = .ok (.aload_n 3, 1) := dk_45 (dk_at dksX0_lies_0 0 rfl rfl)
theorem dX0_lies_1 : decode cX0_lies 1 = .ok (.iconst 0, 1) := dk_3 (dk_at dksX0_lies_0 1 rfl rfl)
theorem dX0_lies_2 : decode cX0_lies 2 = .ok (.aload_n 0, 1) := dk_42 (dk_at dksX0_lies_0 2 rfl rfl)
theorem dX0_lies_3 : decode cX0_lies 3 = .ok (.iload_n 1, 1) := dk_27 (dk_at dksX0_lies_0 3 rfl rfl)
theorem dX0_lies_4 : decode cX0_lies 4 = .ok (.iload_n 2, 1) := dk_28 (dk_at dksX0_lies_0 4 rfl rfl)
theorem dX0_lies_5 : decode cX0_lies 5 = .ok (.invokevirtual 36, 3) := dk_182 0 36 (dk_at dksX0_lies_0 5 rfl rfl)
theorem dX0_lies_8 : decode cX0_lies 8 = .ok (.i2l, 1) := dk_133 (dk_at dksX0_lies_0 8 rfl rfl)
theorem dX0_lies_9 : decode cX0_lies 9 = .ok (.lastore, 1) := dk_80 (dk_at dksX0_lies_0 9 rfl rfl)
theorem dX0_lies_10 : decode cX0_lies 10 = .ok (.goto 7, 3) := dk_167 0 7 (dk_at dksX0_lies_0 10 rfl rfl)
theorem dX0_lies_13 : decode cX0_lies 13 = .ok (.astore 4, 2) := dk_58 4 (dk_at dksX0_lies_0 13 rfl rfl)
theorem dX0_lies_15 : decode cX0_lies 15 = .ok (.iconst 1, 1) := dk_4 (dk_at dksX0_lies_0 15 rfl rfl)
theorem dX0_lies_16 : decode cX0_lies 16 = .ok (.ireturn, 1) := dk_172 (dk_at dksX0_lies_0 16 rfl rfl)
theorem dX0_lies_17 : decode cX0_lies 17 = .ok (.iconst 0, 1) := dk_3 (dk_at dksX0_lies_0 17 rfl rfl)
theorem dX0_lies_18 : decode cX0_lies 18 = .ok (.ireturn, 1) := dk_172 (dk_at dksX0_lies_0 18 rfl rfl)
abbrev cX0_crosses : ByteArray := method_10_code
def yX0_crosses : MethodName := ⟨RX0, "crosses", "(LGridTable;II[J)I"⟩
def dkwX0_crosses_0 : List UInt8 := [45, 3, 42, 27, 28, 182, 0, 39, 133, 80, 167, 0, 7, 58, 4, 4, 172, 3, 172]
abbrev dktX0_crosses_0 : List UInt8 := dkwX0_crosses_0 ++ []
theorem dksX0_crosses_0 : cX0_crosses.data.toList.drop 0 = dktX0_crosses_0 := by decide +kernel
theorem dX0_crosses_0 : decode cX0_crosses 0 = .ok (.aload_n 3, 1) := dk_45 (dk_at dksX0_crosses_0 0 rfl rfl)
theorem dX0_crosses_1 : decode cX0_crosses 1 = .ok (.iconst 0, 1) := dk_3 (dk_at dksX0_crosses_0 1 rfl rfl)
theorem dX0_crosses_2 : decode cX0_crosses 2 = .ok (.aload_n 0, 1) := dk_42 (dk_at dksX0_crosses_0 2 rfl rfl)
theorem dX0_crosses_3 : decode cX0_crosses 3 = .ok (.iload_n 1, 1) := dk_27 (dk_at dksX0_crosses_0 3 rfl rfl)
theorem dX0_crosses_4 : decode cX0_crosses 4 = .ok (.iload_n 2, 1) := dk_28 (dk_at dksX0_crosses_0 4 rfl rfl)
theorem dX0_crosses_5 : decode cX0_crosses 5 = .ok (.invokevirtual 39, 3) := dk_182 0 39 (dk_at dksX0_crosses_0 5 rfl rfl)
theorem dX0_crosses_8 : decode cX0_crosses 8 = .ok (.i2l, 1) := dk_133 (dk_at dksX0_crosses_0 8 rfl rfl)
theorem dX0_crosses_9 : decode cX0_crosses 9 = .ok (.lastore, 1) := dk_80 (dk_at dksX0_crosses_0 9 rfl rfl)
theorem dX0_crosses_10 : decode cX0_crosses 10 = .ok (.goto 7, 3) := dk_167 0 7 (dk_at dksX0_crosses_0 10 rfl rfl)
theorem dX0_crosses_13 : decode cX0_crosses 13 = .ok (.astore 4, 2) := dk_58 4 (dk_at dksX0_crosses_0 13 rfl rfl)
theorem dX0_crosses_15 : decode cX0_crosses 15 = .ok (.iconst 1, 1) := dk_4 (dk_at dksX0_crosses_0 15 rfl rfl)
theorem dX0_crosses_16 : decode cX0_crosses 16 = .ok (.ireturn, 1) := dk_172 (dk_at dksX0_crosses_0 16 rfl rfl)
theorem dX0_crosses_17 : decode cX0_crosses 17 = .ok (.iconst 0, 1) := dk_3 (dk_at dksX0_crosses_0 17 rfl rfl)
theorem dX0_crosses_18 : decode cX0_crosses 18 = .ok (.ireturn, 1) := dk_172 (dk_at dksX0_crosses_0 18 rfl rfl)
abbrev cX0_hull : ByteArray := method_11_code
def yX0_hull : MethodName := ⟨RX0, "hull", "(LGridTable;II[J)I"⟩
def dkwX0_hull_0 : List UInt8 := [45, 3, 42, 27, 28, 182, 0, 42, 133, 80, 167, 0, 7, 58, 4, 4, 172, 3, 172]
abbrev dktX0_hull_0 : List UInt8 := dkwX0_hull_0 ++ []
theorem dksX0_hull_0 : cX0_hull.data.toList.drop 0 = dktX0_hull_0 := by decide +kernel
theorem dX0_hull_0 : decode cX0_hull 0 = .ok (.aload_n 3, 1) := dk_45 (dk_at dksX0_hull_0 0 rfl rfl)
theorem dX0_hull_1 : decode cX0_hull 1 = .ok (.iconst 0, 1) := dk_3 (dk_at dksX0_hull_0 1 rfl rfl)
theorem dX0_hull_2 : decode cX0_hull 2 = .ok (.aload_n 0, 1) := dk_42 (dk_at dksX0_hull_0 2 rfl rfl)
theorem dX0_hull_3 : decode cX0_hull 3 = .ok (.iload_n 1, 1) := dk_27 (dk_at dksX0_hull_0 3 rfl rfl)
theorem dX0_hull_4 : decode cX0_hull 4 = .ok (.iload_n 2, 1) := dk_28 (dk_at dksX0_hull_0 4 rfl rfl)
theorem dX0_hull_5 : decode cX0_hull 5 = .ok (.invokevirtual 42, 3) := dk_182 0 42 (dk_at dksX0_hull_0 5 rfl rfl)
theorem dX0_hull_8 : decode cX0_hull 8 = .ok (.i2l, 1) := dk_133 (dk_at dksX0_hull_0 8 rfl rfl)
theorem dX0_hull_9 : decode cX0_hull 9 = .ok (.lastore, 1) := dk_80 (dk_at dksX0_hull_0 9 rfl rfl)
theorem dX0_hull_10 : decode cX0_hull 10 = .ok (.goto 7, 3) := dk_167 0 7 (dk_at dksX0_hull_0 10 rfl rfl)
theorem dX0_hull_13 : decode cX0_hull 13 = .ok (.astore 4, 2) := dk_58 4 (dk_at dksX0_hull_0 13 rfl rfl)
theorem dX0_hull_15 : decode cX0_hull 15 = .ok (.iconst 1, 1) := dk_4 (dk_at dksX0_hull_0 15 rfl rfl)
theorem dX0_hull_16 : decode cX0_hull 16 = .ok (.ireturn, 1) := dk_172 (dk_at dksX0_hull_0 16 rfl rfl)
theorem dX0_hull_17 : decode cX0_hull 17 = .ok (.iconst 0, 1) := dk_3 (dk_at dksX0_hull_0 17 rfl rfl)
theorem dX0_hull_18 : decode cX0_hull 18 = .ok (.ireturn, 1) := dk_172 (dk_at dksX0_hull_0 18 rfl rfl)
abbrev cX0_hullCorner : ByteArray := method_12_code
def yX0_hullCorner : MethodName := ⟨RX0, "hullCorner", "(LGridTable;II[J)I"⟩
def dkwX0_hullCorner_0 : List UInt8 := [45, 3, 42, 27, 28, 182, 0, 45, 133, 80, 167, 0, 7, 58, 4, 4, 172, 3, 172]
abbrev dktX0_hullCorner_0 : List UInt8 := dkwX0_hullCorner_0 ++ []
theorem dksX0_hullCorner_0 : cX0_hullCorner.data.toList.drop 0 = dktX0_hullCorner_0 := by decide +kernel
theorem dX0_hullCorner_0 : decode cX0_hullCorner 0 = .ok (.aload_n 3, 1) := dk_45 (dk_at dksX0_hullCorner_0 0 rfl rfl)
theorem dX0_hullCorner_1 : decode cX0_hullCorner 1 = .ok (.iconst 0, 1) := dk_3 (dk_at dksX0_hullCorner_0 1 rfl rfl)
theorem dX0_hullCorner_2 : decode cX0_hullCorner 2 = .ok (.aload_n 0, 1) := dk_42 (dk_at dksX0_hullCorner_0 2 rfl rfl)
theorem dX0_hullCorner_3 : decode cX0_hullCorner 3 = .ok (.iload_n 1, 1) := dk_27 (dk_at dksX0_hullCorner_0 3 rfl rfl)
theorem dX0_hullCorner_4 : decode cX0_hullCorner 4 = .ok (.iload_n 2, 1) := dk_28 (dk_at dksX0_hullCorner_0 4 rfl rfl)
theorem dX0_hullCorner_5 : decode cX0_hullCorner 5 = .ok (.invokevirtual 45, 3) := dk_182 0 45 (dk_at dksX0_hullCorner_0 5 rfl rfl)
theorem dX0_hullCorner_8 : decode cX0_hullCorner 8 = .ok (.i2l, 1) := dk_133 (dk_at dksX0_hullCorner_0 8 rfl rfl)
theorem dX0_hullCorner_9 : decode cX0_hullCorner 9 = .ok (.lastore, 1) := dk_80 (dk_at dksX0_hullCorner_0 9 rfl rfl)
theorem dX0_hullCorner_10 : decode cX0_hullCorner 10 = .ok (.goto 7, 3) := dk_167 0 7 (dk_at dksX0_hullCorner_0 10 rfl rfl)
theorem dX0_hullCorner_13 : decode cX0_hullCorner 13 = .ok (.astore 4, 2) := dk_58 4 (dk_at dksX0_hullCorner_0 13 rfl rfl)
theorem dX0_hullCorner_15 : decode cX0_hullCorner 15 = .ok (.iconst 1, 1) := dk_4 (dk_at dksX0_hullCorner_0 15 rfl rfl)
theorem dX0_hullCorner_16 : decode cX0_hullCorner 16 = .ok (.ireturn, 1) := dk_172 (dk_at dksX0_hullCorner_0 16 rfl rfl)
theorem dX0_hullCorner_17 : decode cX0_hullCorner 17 = .ok (.iconst 0, 1) := dk_3 (dk_at dksX0_hullCorner_0 17 rfl rfl)
theorem dX0_hullCorner_18 : decode cX0_hullCorner 18 = .ok (.ireturn, 1) := dk_172 (dk_at dksX0_hullCorner_0 18 rfl rfl)
abbrev cX0_nearest : ByteArray := method_13_code
def yX0_nearest : MethodName := ⟨RX0, "nearest", "(LGridTable;II[J)I"⟩
def dkwX0_nearest_0 : List UInt8 := [45, 3, 42, 27, 28, 182, 0, 48, 133, 80, 167, 0, 7, 58, 4, 4, 172, 3, 172]
abbrev dktX0_nearest_0 : List UInt8 := dkwX0_nearest_0 ++ []
theorem dksX0_nearest_0 : cX0_nearest.data.toList.drop 0 = dktX0_nearest_0 := by decide +kernel
theorem dX0_nearest_0 : decode cX0_nearest 0 = .ok (.aload_n 3, 1) := dk_45 (dk_at dksX0_nearest_0 0 rfl rfl)
theorem dX0_nearest_1 : decode cX0_nearest 1 = .ok (.iconst 0, 1) := dk_3 (dk_at dksX0_nearest_0 1 rfl rfl)
theorem dX0_nearest_2 : decode cX0_nearest 2 = .ok (.aload_n 0, 1) := dk_42 (dk_at dksX0_nearest_0 2 rfl rfl)
theorem dX0_nearest_3 : decode cX0_nearest 3 = .ok (.iload_n 1, 1) := dk_27 (dk_at dksX0_nearest_0 3 rfl rfl)
theorem dX0_nearest_4 : decode cX0_nearest 4 = .ok (.iload_n 2, 1) := dk_28 (dk_at dksX0_nearest_0 4 rfl rfl)
theorem dX0_nearest_5 : decode cX0_nearest 5 = .ok (.invokevirtual 48, 3) := dk_182 0 48 (dk_at dksX0_nearest_0 5 rfl rfl)
theorem dX0_nearest_8 : decode cX0_nearest 8 = .ok (.i2l, 1) := dk_133 (dk_at dksX0_nearest_0 8 rfl rfl)
theorem dX0_nearest_9 : decode cX0_nearest 9 = .ok (.lastore, 1) := dk_80 (dk_at dksX0_nearest_0 9 rfl rfl)
theorem dX0_nearest_10 : decode cX0_nearest 10 = .ok (.goto 7, 3) := dk_167 0 7 (dk_at dksX0_nearest_0 10 rfl rfl)
theorem dX0_nearest_13 : decode cX0_nearest 13 = .ok (.astore 4, 2) := dk_58 4 (dk_at dksX0_nearest_0 13 rfl rfl)
theorem dX0_nearest_15 : decode cX0_nearest 15 = .ok (.iconst 1, 1) := dk_4 (dk_at dksX0_nearest_0 15 rfl rfl)
theorem dX0_nearest_16 : decode cX0_nearest 16 = .ok (.ireturn, 1) := dk_172 (dk_at dksX0_nearest_0 16 rfl rfl)
theorem dX0_nearest_17 : decode cX0_nearest 17 = .ok (.iconst 0, 1) := dk_3 (dk_at dksX0_nearest_0 17 rfl rfl)
theorem dX0_nearest_18 : decode cX0_nearest 18 = .ok (.ireturn, 1) := dk_172 (dk_at dksX0_nearest_0 18 rfl rfl)
abbrev cX0_enter : ByteArray := method_14_code
def yX0_enter : MethodName := ⟨RX0, "enter", "(LGridTable;II[J)I"⟩
def dkwX0_enter_0 : List UInt8 := [45, 3, 42, 27, 28, 182, 0, 51, 133, 80, 167, 0, 7, 58, 4, 4, 172, 3, 172]
abbrev dktX0_enter_0 : List UInt8 := dkwX0_enter_0 ++ []
theorem dksX0_enter_0 : cX0_enter.data.toList.drop 0 = dktX0_enter_0 := by decide +kernel
theorem dX0_enter_0 : decode cX0_enter 0 = .ok (.aload_n 3, 1) := dk_45 (dk_at dksX0_enter_0 0 rfl rfl)
theorem dX0_enter_1 : decode cX0_enter 1 = .ok (.iconst 0, 1) := dk_3 (dk_at dksX0_enter_0 1 rfl rfl)
theorem dX0_enter_2 : decode cX0_enter 2 = .ok (.aload_n 0, 1) := dk_42 (dk_at dksX0_enter_0 2 rfl rfl)
theorem dX0_enter_3 : decode cX0_enter 3 = .ok (.iload_n 1, 1) := dk_27 (dk_at dksX0_enter_0 3 rfl rfl)
theorem dX0_enter_4 : decode cX0_enter 4 = .ok (.iload_n 2, 1) := dk_28 (dk_at dksX0_enter_0 4 rfl rfl)
theorem dX0_enter_5 : decode cX0_enter 5 = .ok (.invokevirtual 51, 3) := dk_182 0 51 (dk_at dksX0_enter_0 5 rfl rfl)
theorem dX0_enter_8 : decode cX0_enter 8 = .ok (.i2l, 1) := dk_133 (dk_at dksX0_enter_0 8 rfl rfl)
theorem dX0_enter_9 : decode cX0_enter 9 = .ok (.lastore, 1) := dk_80 (dk_at dksX0_enter_0 9 rfl rfl)
theorem dX0_enter_10 : decode cX0_enter 10 = .ok (.goto 7, 3) := dk_167 0 7 (dk_at dksX0_enter_0 10 rfl rfl)
theorem dX0_enter_13 : decode cX0_enter 13 = .ok (.astore 4, 2) := dk_58 4 (dk_at dksX0_enter_0 13 rfl rfl)
theorem dX0_enter_15 : decode cX0_enter 15 = .ok (.iconst 1, 1) := dk_4 (dk_at dksX0_enter_0 15 rfl rfl)
theorem dX0_enter_16 : decode cX0_enter 16 = .ok (.ireturn, 1) := dk_172 (dk_at dksX0_enter_0 16 rfl rfl)
theorem dX0_enter_17 : decode cX0_enter 17 = .ok (.iconst 0, 1) := dk_3 (dk_at dksX0_enter_0 17 rfl rfl)
theorem dX0_enter_18 : decode cX0_enter 18 = .ok (.ireturn, 1) := dk_172 (dk_at dksX0_enter_0 18 rfl rfl)
abbrev cX0_put : ByteArray := method_15_code
def yX0_put : MethodName := ⟨RX0, "put", "(LGridTable;III[J)I"⟩
def dkwX0_put_1 : List UInt8 := [172]
abbrev dktX0_put_1 : List UInt8 := dkwX0_put_1 ++ []
def dkwX0_put_0 : List UInt8 := [25, 4, 3, 42, 27, 28, 29, 182, 0, 54, 133, 80, 167, 0, 11, 58, 5, 4, 172, 58, 5, 5, 172, 3]
abbrev dktX0_put_0 : List UInt8 := dkwX0_put_0 ++ dktX0_put_1
theorem dksX0_put_0 : cX0_put.data.toList.drop 0 = dktX0_put_0 := by decide +kernel
theorem dksX0_put_1 : cX0_put.data.toList.drop 24 = dktX0_put_1 := dk_seg dksX0_put_0 24 rfl rfl
theorem dX0_put_0 : decode cX0_put 0 = .ok (.aload 4, 2) := dk_25 4 (dk_at dksX0_put_0 0 rfl rfl)
theorem dX0_put_2 : decode cX0_put 2 = .ok (.iconst 0, 1) := dk_3 (dk_at dksX0_put_0 2 rfl rfl)
theorem dX0_put_3 : decode cX0_put 3 = .ok (.aload_n 0, 1) := dk_42 (dk_at dksX0_put_0 3 rfl rfl)
theorem dX0_put_4 : decode cX0_put 4 = .ok (.iload_n 1, 1) := dk_27 (dk_at dksX0_put_0 4 rfl rfl)
theorem dX0_put_5 : decode cX0_put 5 = .ok (.iload_n 2, 1) := dk_28 (dk_at dksX0_put_0 5 rfl rfl)
theorem dX0_put_6 : decode cX0_put 6 = .ok (.iload_n 3, 1) := dk_29 (dk_at dksX0_put_0 6 rfl rfl)
theorem dX0_put_7 : decode cX0_put 7 = .ok (.invokevirtual 54, 3) := dk_182 0 54 (dk_at dksX0_put_0 7 rfl rfl)
theorem dX0_put_10 : decode cX0_put 10 = .ok (.i2l, 1) := dk_133 (dk_at dksX0_put_0 10 rfl rfl)
theorem dX0_put_11 : decode cX0_put 11 = .ok (.lastore, 1) := dk_80 (dk_at dksX0_put_0 11 rfl rfl)
theorem dX0_put_12 : decode cX0_put 12 = .ok (.goto 11, 3) := dk_167 0 11 (dk_at dksX0_put_0 12 rfl rfl)
theorem dX0_put_15 : decode cX0_put 15 = .ok (.astore 5, 2) := dk_58 5 (dk_at dksX0_put_0 15 rfl rfl)
theorem dX0_put_17 : decode cX0_put 17 = .ok (.iconst 1, 1) := dk_4 (dk_at dksX0_put_0 17 rfl rfl)
theorem dX0_put_18 : decode cX0_put 18 = .ok (.ireturn, 1) := dk_172 (dk_at dksX0_put_0 18 rfl rfl)
theorem dX0_put_19 : decode cX0_put 19 = .ok (.astore 5, 2) := dk_58 5 (dk_at dksX0_put_0 19 rfl rfl)
theorem dX0_put_21 : decode cX0_put 21 = .ok (.iconst 2, 1) := dk_5 (dk_at dksX0_put_0 21 rfl rfl)
theorem dX0_put_22 : decode cX0_put 22 = .ok (.ireturn, 1) := dk_172 (dk_at dksX0_put_0 22 rfl rfl)
theorem dX0_put_23 : decode cX0_put 23 = .ok (.iconst 0, 1) := dk_3 (dk_at dksX0_put_0 23 rfl rfl)
theorem dX0_put_24 : decode cX0_put 24 = .ok (.ireturn, 1) := dk_172 (dk_at dksX0_put_1 0 rfl rfl)
abbrev cX0_carry : ByteArray := method_16_code
def yX0_carry : MethodName := ⟨RX0, "carry", "(LGridTable;I[J)I"⟩
def dkwX0_carry_0 : List UInt8 := [44, 3, 42, 27, 182, 0, 58, 153, 0, 7, 10, 167, 0, 4, 9, 80, 167, 0, 6, 78, 4, 172, 3, 172]
abbrev dktX0_carry_0 : List UInt8 := dkwX0_carry_0 ++ []
theorem dksX0_carry_0 : cX0_carry.data.toList.drop 0 = dktX0_carry_0 := by decide +kernel
theorem dX0_carry_0 : decode cX0_carry 0 = .ok (.aload_n 2, 1) := dk_44 (dk_at dksX0_carry_0 0 rfl rfl)
theorem dX0_carry_1 : decode cX0_carry 1 = .ok (.iconst 0, 1) := dk_3 (dk_at dksX0_carry_0 1 rfl rfl)
theorem dX0_carry_2 : decode cX0_carry 2 = .ok (.aload_n 0, 1) := dk_42 (dk_at dksX0_carry_0 2 rfl rfl)
theorem dX0_carry_3 : decode cX0_carry 3 = .ok (.iload_n 1, 1) := dk_27 (dk_at dksX0_carry_0 3 rfl rfl)
theorem dX0_carry_4 : decode cX0_carry 4 = .ok (.invokevirtual 58, 3) := dk_182 0 58 (dk_at dksX0_carry_0 4 rfl rfl)
theorem dX0_carry_7 : decode cX0_carry 7 = .ok (.ifCond .eq 7, 3) := dk_153 0 7 (dk_at dksX0_carry_0 7 rfl rfl)
theorem dX0_carry_10 : decode cX0_carry 10 = .ok (.lconst 1, 1) := dk_10 (dk_at dksX0_carry_0 10 rfl rfl)
theorem dX0_carry_11 : decode cX0_carry 11 = .ok (.goto 4, 3) := dk_167 0 4 (dk_at dksX0_carry_0 11 rfl rfl)
theorem dX0_carry_14 : decode cX0_carry 14 = .ok (.lconst 0, 1) := dk_9 (dk_at dksX0_carry_0 14 rfl rfl)
theorem dX0_carry_15 : decode cX0_carry 15 = .ok (.lastore, 1) := dk_80 (dk_at dksX0_carry_0 15 rfl rfl)
theorem dX0_carry_16 : decode cX0_carry 16 = .ok (.goto 6, 3) := dk_167 0 6 (dk_at dksX0_carry_0 16 rfl rfl)
theorem dX0_carry_19 : decode cX0_carry 19 = .ok (.astore_n 3, 1) := dk_78 (dk_at dksX0_carry_0 19 rfl rfl)
theorem dX0_carry_20 : decode cX0_carry 20 = .ok (.iconst 1, 1) := dk_4 (dk_at dksX0_carry_0 20 rfl rfl)
theorem dX0_carry_21 : decode cX0_carry 21 = .ok (.ireturn, 1) := dk_172 (dk_at dksX0_carry_0 21 rfl rfl)
theorem dX0_carry_22 : decode cX0_carry 22 = .ok (.iconst 0, 1) := dk_3 (dk_at dksX0_carry_0 22 rfl rfl)
theorem dX0_carry_23 : decode cX0_carry 23 = .ok (.ireturn, 1) := dk_172 (dk_at dksX0_carry_0 23 rfl rfl)
abbrev cX0_undo : ByteArray := method_17_code
def yX0_undo : MethodName := ⟨RX0, "undo", "(LGridTable;[J)I"⟩
def dkwX0_undo_0 : List UInt8 := [43, 3, 42, 182, 0, 62, 133, 80, 167, 0, 6, 77, 4, 172, 3, 172]
abbrev dktX0_undo_0 : List UInt8 := dkwX0_undo_0 ++ []
theorem dksX0_undo_0 : cX0_undo.data.toList.drop 0 = dktX0_undo_0 := by decide +kernel
theorem dX0_undo_0 : decode cX0_undo 0 = .ok (.aload_n 1, 1) := dk_43 (dk_at dksX0_undo_0 0 rfl rfl)
theorem dX0_undo_1 : decode cX0_undo 1 = .ok (.iconst 0, 1) := dk_3 (dk_at dksX0_undo_0 1 rfl rfl)
theorem dX0_undo_2 : decode cX0_undo 2 = .ok (.aload_n 0, 1) := dk_42 (dk_at dksX0_undo_0 2 rfl rfl)
theorem dX0_undo_3 : decode cX0_undo 3 = .ok (.invokevirtual 62, 3) := dk_182 0 62 (dk_at dksX0_undo_0 3 rfl rfl)
theorem dX0_undo_6 : decode cX0_undo 6 = .ok (.i2l, 1) := dk_133 (dk_at dksX0_undo_0 6 rfl rfl)
theorem dX0_undo_7 : decode cX0_undo 7 = .ok (.lastore, 1) := dk_80 (dk_at dksX0_undo_0 7 rfl rfl)
theorem dX0_undo_8 : decode cX0_undo 8 = .ok (.goto 6, 3) := dk_167 0 6 (dk_at dksX0_undo_0 8 rfl rfl)
theorem dX0_undo_11 : decode cX0_undo 11 = .ok (.astore_n 2, 1) := dk_77 (dk_at dksX0_undo_0 11 rfl rfl)
theorem dX0_undo_12 : decode cX0_undo 12 = .ok (.iconst 1, 1) := dk_4 (dk_at dksX0_undo_0 12 rfl rfl)
theorem dX0_undo_13 : decode cX0_undo 13 = .ok (.ireturn, 1) := dk_172 (dk_at dksX0_undo_0 13 rfl rfl)
theorem dX0_undo_14 : decode cX0_undo 14 = .ok (.iconst 0, 1) := dk_3 (dk_at dksX0_undo_0 14 rfl rfl)
theorem dX0_undo_15 : decode cX0_undo 15 = .ok (.ireturn, 1) := dk_172 (dk_at dksX0_undo_0 15 rfl rfl)
abbrev cX0_step : ByteArray := method_18_code
def yX0_step : MethodName := ⟨RX0, "step", "(LGridTable;II[J)I"⟩
def dkwX0_step_0 : List UInt8 := [45, 3, 42, 27, 28, 182, 0, 66, 133, 80, 167, 0, 7, 58, 4, 4, 172, 3, 172]
abbrev dktX0_step_0 : List UInt8 := dkwX0_step_0 ++ []
theorem dksX0_step_0 : cX0_step.data.toList.drop 0 = dktX0_step_0 := by decide +kernel
theorem dX0_step_0 : decode cX0_step 0 = .ok (.aload_n 3, 1) := dk_45 (dk_at dksX0_step_0 0 rfl rfl)
theorem dX0_step_1 : decode cX0_step 1 = .ok (.iconst 0, 1) := dk_3 (dk_at dksX0_step_0 1 rfl rfl)
theorem dX0_step_2 : decode cX0_step 2 = .ok (.aload_n 0, 1) := dk_42 (dk_at dksX0_step_0 2 rfl rfl)
theorem dX0_step_3 : decode cX0_step 3 = .ok (.iload_n 1, 1) := dk_27 (dk_at dksX0_step_0 3 rfl rfl)
theorem dX0_step_4 : decode cX0_step 4 = .ok (.iload_n 2, 1) := dk_28 (dk_at dksX0_step_0 4 rfl rfl)
theorem dX0_step_5 : decode cX0_step 5 = .ok (.invokevirtual 66, 3) := dk_182 0 66 (dk_at dksX0_step_0 5 rfl rfl)
theorem dX0_step_8 : decode cX0_step 8 = .ok (.i2l, 1) := dk_133 (dk_at dksX0_step_0 8 rfl rfl)
theorem dX0_step_9 : decode cX0_step 9 = .ok (.lastore, 1) := dk_80 (dk_at dksX0_step_0 9 rfl rfl)
theorem dX0_step_10 : decode cX0_step 10 = .ok (.goto 7, 3) := dk_167 0 7 (dk_at dksX0_step_0 10 rfl rfl)
theorem dX0_step_13 : decode cX0_step 13 = .ok (.astore 4, 2) := dk_58 4 (dk_at dksX0_step_0 13 rfl rfl)
theorem dX0_step_15 : decode cX0_step 15 = .ok (.iconst 1, 1) := dk_4 (dk_at dksX0_step_0 15 rfl rfl)
theorem dX0_step_16 : decode cX0_step 16 = .ok (.ireturn, 1) := dk_172 (dk_at dksX0_step_0 16 rfl rfl)
theorem dX0_step_17 : decode cX0_step 17 = .ok (.iconst 0, 1) := dk_3 (dk_at dksX0_step_0 17 rfl rfl)
theorem dX0_step_18 : decode cX0_step 18 = .ok (.ireturn, 1) := dk_172 (dk_at dksX0_step_0 18 rfl rfl)
abbrev cX0_would : ByteArray := method_19_code
def yX0_would : MethodName := ⟨RX0, "would", "(LGridTable;I[J)I"⟩
def dkwX0_would_0 : List UInt8 := [44, 3, 42, 27, 182, 0, 69, 133, 80, 167, 0, 6, 78, 4, 172, 3, 172]
abbrev dktX0_would_0 : List UInt8 := dkwX0_would_0 ++ []
theorem dksX0_would_0 : cX0_would.data.toList.drop 0 = dktX0_would_0 := by decide +kernel
theorem dX0_would_0 : decode cX0_would 0 = .ok (.aload_n 2, 1) := dk_44 (dk_at dksX0_would_0 0 rfl rfl)
theorem dX0_would_1 : decode cX0_would 1 = .ok (.iconst 0, 1) := dk_3 (dk_at dksX0_would_0 1 rfl rfl)
theorem dX0_would_2 : decode cX0_would 2 = .ok (.aload_n 0, 1) := dk_42 (dk_at dksX0_would_0 2 rfl rfl)
theorem dX0_would_3 : decode cX0_would 3 = .ok (.iload_n 1, 1) := dk_27 (dk_at dksX0_would_0 3 rfl rfl)
theorem dX0_would_4 : decode cX0_would 4 = .ok (.invokevirtual 69, 3) := dk_182 0 69 (dk_at dksX0_would_0 4 rfl rfl)
theorem dX0_would_7 : decode cX0_would 7 = .ok (.i2l, 1) := dk_133 (dk_at dksX0_would_0 7 rfl rfl)
theorem dX0_would_8 : decode cX0_would 8 = .ok (.lastore, 1) := dk_80 (dk_at dksX0_would_0 8 rfl rfl)
theorem dX0_would_9 : decode cX0_would 9 = .ok (.goto 6, 3) := dk_167 0 6 (dk_at dksX0_would_0 9 rfl rfl)
theorem dX0_would_12 : decode cX0_would 12 = .ok (.astore_n 3, 1) := dk_78 (dk_at dksX0_would_0 12 rfl rfl)
theorem dX0_would_13 : decode cX0_would 13 = .ok (.iconst 1, 1) := dk_4 (dk_at dksX0_would_0 13 rfl rfl)
theorem dX0_would_14 : decode cX0_would 14 = .ok (.ireturn, 1) := dk_172 (dk_at dksX0_would_0 14 rfl rfl)
theorem dX0_would_15 : decode cX0_would 15 = .ok (.iconst 0, 1) := dk_3 (dk_at dksX0_would_0 15 rfl rfl)
theorem dX0_would_16 : decode cX0_would 16 = .ok (.ireturn, 1) := dk_172 (dk_at dksX0_would_0 16 rfl rfl)
abbrev cX0_without : ByteArray := method_20_code
def yX0_without : MethodName := ⟨RX0, "without", "(LGridTable;I[J)I"⟩
def dkwX0_without_0 : List UInt8 := [44, 3, 42, 27, 182, 0, 72, 133, 80, 167, 0, 6, 78, 4, 172, 3, 172]
abbrev dktX0_without_0 : List UInt8 := dkwX0_without_0 ++ []
theorem dksX0_without_0 : cX0_without.data.toList.drop 0 = dktX0_without_0 := by decide +kernel
theorem dX0_without_0 : decode cX0_without 0 = .ok (.aload_n 2, 1) := dk_44 (dk_at dksX0_without_0 0 rfl rfl)
theorem dX0_without_1 : decode cX0_without 1 = .ok (.iconst 0, 1) := dk_3 (dk_at dksX0_without_0 1 rfl rfl)
theorem dX0_without_2 : decode cX0_without 2 = .ok (.aload_n 0, 1) := dk_42 (dk_at dksX0_without_0 2 rfl rfl)
theorem dX0_without_3 : decode cX0_without 3 = .ok (.iload_n 1, 1) := dk_27 (dk_at dksX0_without_0 3 rfl rfl)
theorem dX0_without_4 : decode cX0_without 4 = .ok (.invokevirtual 72, 3) := dk_182 0 72 (dk_at dksX0_without_0 4 rfl rfl)
theorem dX0_without_7 : decode cX0_without 7 = .ok (.i2l, 1) := dk_133 (dk_at dksX0_without_0 7 rfl rfl)
theorem dX0_without_8 : decode cX0_without 8 = .ok (.lastore, 1) := dk_80 (dk_at dksX0_without_0 8 rfl rfl)
theorem dX0_without_9 : decode cX0_without 9 = .ok (.goto 6, 3) := dk_167 0 6 (dk_at dksX0_without_0 9 rfl rfl)
theorem dX0_without_12 : decode cX0_without 12 = .ok (.astore_n 3, 1) := dk_78 (dk_at dksX0_without_0 12 rfl rfl)
theorem dX0_without_13 : decode cX0_without 13 = .ok (.iconst 1, 1) := dk_4 (dk_at dksX0_without_0 13 rfl rfl)
theorem dX0_without_14 : decode cX0_without 14 = .ok (.ireturn, 1) := dk_172 (dk_at dksX0_without_0 14 rfl rfl)
theorem dX0_without_15 : decode cX0_without 15 = .ok (.iconst 0, 1) := dk_3 (dk_at dksX0_without_0 15 rfl rfl)
theorem dX0_without_16 : decode cX0_without 16 = .ok (.ireturn, 1) := dk_172 (dk_at dksX0_without_0 16 rfl rfl)
theorem q111 : (Jvm.Cond.initialized "GridTableLaw") ∈ lw_all := lw_g (lw_at lw_m1 0 rfl) rfl
theorem q177 : (Jvm.Cond.classLink "GridTableLaw" (8 : Nat) "GridTable") ∈ lw_all := lw_g (lw_at lw_m1 66 rfl) rfl
theorem q179 : (Jvm.Cond.methodLink "GridTableLaw" (75 : Nat) ({ cls := "GridTable", name := "<init>", desc := "()V" } : Jvm.MethodName)) ∈ lw_all := lw_g (lw_at lw_m1 68 rfl) rfl
theorem q299 : (Jvm.Cond.methodLink "GridTableLaw" (92 : Nat) ({ cls := "GridTable", name := "teach", desc := "()I" } : Jvm.MethodName)) ∈ lw_all := lw_g (lw_at lw_m1 188 rfl) rfl
theorem q2165 : (Jvm.Cond.methodLink "GridTableLaw" (96 : Nat) ({ cls := "GridTable", name := "errorAt", desc := "()I" } : Jvm.MethodName)) ∈ lw_all := lw_g (lw_at lw_m9 134 rfl) rfl
theorem q2169 : (Jvm.Cond.methodLink "GridTableLaw" (138 : Nat) ({ cls := "GridTable", name := "run", desc := "()I" } : Jvm.MethodName)) ∈ lw_all := lw_g (lw_at lw_m9 138 rfl) rfl
theorem q2292 : (Jvm.Cond.methodLink "GridTableLaw" (155 : Nat) ({ cls := "GridTable", name := "mean", desc := "()D" } : Jvm.MethodName)) ∈ lw_all := lw_g (lw_at lw_m10 21 rfl) rfl
theorem q2354 : (Jvm.Cond.methodLink "GridTableLaw" (160 : Nat) ({ cls := "GridTable", name := "digest", desc := "()J" } : Jvm.MethodName)) ∈ lw_all := lw_g (lw_at lw_m10 83 rfl) rfl
theorem q2495 : (Jvm.Cond.methodLink "GridTableLaw" (79 : Nat) ({ cls := "GridTableLaw", name := "feed", desc := "(LGridTable;IIIII[J)I" } : Jvm.MethodName)) ∈ lw_all := lw_g (lw_at lw_m10 224 rfl) rfl
theorem q2496 : (Jvm.Cond.static ({ cls := "GridTableLaw", name := "feed", desc := "(LGridTable;IIIII[J)I" } : Jvm.MethodName)) ∈ lw_all := lw_g (lw_at lw_m10 225 rfl) rfl
theorem q2497 : (Jvm.Cond.codeWith ({ cls := "GridTableLaw", name := "feed", desc := "(LGridTable;IIIII[J)I" } : Jvm.MethodName) method_3_code (8 : Nat) (Option.some Jvm.ClassFile.FieldType.int) [((0 : Nat), (16 : Nat), (19 : Nat), (13 : Nat))]) ∈ lw_all := lw_g (lw_at lw_m10 226 rfl) rfl
theorem q2498 : (Jvm.Cond.classLink "GridTableLaw" (13 : Nat) "java/lang/IllegalStateException") ∈ lw_all := lw_g (lw_at lw_m10 227 rfl) rfl
theorem q2499 : (Jvm.Cond.methodLink "GridTableLaw" (7 : Nat) ({ cls := "GridTable", name := "feed", desc := "(IIIII)I" } : Jvm.MethodName)) ∈ lw_all := lw_g (lw_at lw_m10 228 rfl) rfl
theorem q2525 : (Jvm.Cond.methodLink "GridTableLaw" (88 : Nat) ({ cls := "GridTableLaw", name := "trim", desc := "(LGridTable;I[J)I" } : Jvm.MethodName)) ∈ lw_all := lw_g (lw_at lw_m11 14 rfl) rfl
theorem q2526 : (Jvm.Cond.static ({ cls := "GridTableLaw", name := "trim", desc := "(LGridTable;I[J)I" } : Jvm.MethodName)) ∈ lw_all := lw_g (lw_at lw_m11 15 rfl) rfl
theorem q2527 : (Jvm.Cond.codeWith ({ cls := "GridTableLaw", name := "trim", desc := "(LGridTable;I[J)I" } : Jvm.MethodName) method_4_code (4 : Nat) (Option.some Jvm.ClassFile.FieldType.int) [((0 : Nat), (9 : Nat), (12 : Nat), (19 : Nat))]) ∈ lw_all := lw_g (lw_at lw_m11 16 rfl) rfl
theorem q2528 : (Jvm.Cond.classLink "GridTableLaw" (19 : Nat) "java/lang/IllegalArgumentException") ∈ lw_all := lw_g (lw_at lw_m11 17 rfl) rfl
theorem q2529 : (Jvm.Cond.methodLink "GridTableLaw" (15 : Nat) ({ cls := "GridTable", name := "trim", desc := "(I)I" } : Jvm.MethodName)) ∈ lw_all := lw_g (lw_at lw_m11 18 rfl) rfl
theorem q2544 : (Jvm.Cond.methodLink "GridTableLaw" (100 : Nat) ({ cls := "GridTableLaw", name := "count", desc := "(LGridTable;I[J)I" } : Jvm.MethodName)) ∈ lw_all := lw_g (lw_at lw_m11 33 rfl) rfl
theorem q2545 : (Jvm.Cond.static ({ cls := "GridTableLaw", name := "count", desc := "(LGridTable;I[J)I" } : Jvm.MethodName)) ∈ lw_all := lw_g (lw_at lw_m11 34 rfl) rfl
theorem q2546 : (Jvm.Cond.codeWith ({ cls := "GridTableLaw", name := "count", desc := "(LGridTable;I[J)I" } : Jvm.MethodName) method_5_code (4 : Nat) (Option.some Jvm.ClassFile.FieldType.int) [((0 : Nat), (9 : Nat), (12 : Nat), (24 : Nat))]) ∈ lw_all := lw_g (lw_at lw_m11 35 rfl) rfl
theorem q2547 : (Jvm.Cond.classLink "GridTableLaw" (24 : Nat) "java/lang/IndexOutOfBoundsException") ∈ lw_all := lw_g (lw_at lw_m11 36 rfl) rfl
theorem q2566 : (Jvm.Cond.methodLink "GridTableLaw" (21 : Nat) ({ cls := "GridTable", name := "count", desc := "(I)I" } : Jvm.MethodName)) ∈ lw_all := lw_g (lw_at lw_m11 55 rfl) rfl
theorem q2567 : (Jvm.Cond.methodLink "GridTableLaw" (103 : Nat) ({ cls := "GridTableLaw", name := "point", desc := "(LGridTable;II[J)I" } : Jvm.MethodName)) ∈ lw_all := lw_g (lw_at lw_m11 56 rfl) rfl
theorem q2568 : (Jvm.Cond.static ({ cls := "GridTableLaw", name := "point", desc := "(LGridTable;II[J)I" } : Jvm.MethodName)) ∈ lw_all := lw_g (lw_at lw_m11 57 rfl) rfl
theorem q2569 : (Jvm.Cond.codeWith ({ cls := "GridTableLaw", name := "point", desc := "(LGridTable;II[J)I" } : Jvm.MethodName) method_6_code (5 : Nat) (Option.some Jvm.ClassFile.FieldType.int) [((0 : Nat), (10 : Nat), (13 : Nat), (24 : Nat))]) ∈ lw_all := lw_g (lw_at lw_m11 58 rfl) rfl
theorem q2570 : (Jvm.Cond.methodLink "GridTableLaw" (26 : Nat) ({ cls := "GridTable", name := "point", desc := "(II)I" } : Jvm.MethodName)) ∈ lw_all := lw_g (lw_at lw_m11 59 rfl) rfl
theorem q2574 : (Jvm.Cond.methodLink "GridTableLaw" (107 : Nat) ({ cls := "GridTableLaw", name := "shape", desc := "(LGridTable;II[J)I" } : Jvm.MethodName)) ∈ lw_all := lw_g (lw_at lw_m11 63 rfl) rfl
theorem q2575 : (Jvm.Cond.static ({ cls := "GridTableLaw", name := "shape", desc := "(LGridTable;II[J)I" } : Jvm.MethodName)) ∈ lw_all := lw_g (lw_at lw_m11 64 rfl) rfl
theorem q2576 : (Jvm.Cond.codeWith ({ cls := "GridTableLaw", name := "shape", desc := "(LGridTable;II[J)I" } : Jvm.MethodName) method_7_code (5 : Nat) (Option.some Jvm.ClassFile.FieldType.int) [((0 : Nat), (10 : Nat), (13 : Nat), (24 : Nat))]) ∈ lw_all := lw_g (lw_at lw_m11 65 rfl) rfl
theorem q2577 : (Jvm.Cond.methodLink "GridTableLaw" (30 : Nat) ({ cls := "GridTable", name := "shape", desc := "(II)I" } : Jvm.MethodName)) ∈ lw_all := lw_g (lw_at lw_m11 66 rfl) rfl
theorem q2586 : (Jvm.Cond.methodLink "GridTableLaw" (110 : Nat) ({ cls := "GridTableLaw", name := "corner", desc := "(LGridTable;II[J)I" } : Jvm.MethodName)) ∈ lw_all := lw_g (lw_at lw_m11 75 rfl) rfl
theorem q2587 : (Jvm.Cond.static ({ cls := "GridTableLaw", name := "corner", desc := "(LGridTable;II[J)I" } : Jvm.MethodName)) ∈ lw_all := lw_g (lw_at lw_m11 76 rfl) rfl
theorem q2588 : (Jvm.Cond.codeWith ({ cls := "GridTableLaw", name := "corner", desc := "(LGridTable;II[J)I" } : Jvm.MethodName) method_8_code (5 : Nat) (Option.some Jvm.ClassFile.FieldType.int) [((0 : Nat), (10 : Nat), (13 : Nat), (24 : Nat))]) ∈ lw_all := lw_g (lw_at lw_m11 77 rfl) rfl
theorem q2589 : (Jvm.Cond.methodLink "GridTableLaw" (33 : Nat) ({ cls := "GridTable", name := "corner", desc := "(II)I" } : Jvm.MethodName)) ∈ lw_all := lw_g (lw_at lw_m11 78 rfl) rfl
theorem q2593 : (Jvm.Cond.methodLink "GridTableLaw" (113 : Nat) ({ cls := "GridTableLaw", name := "lies", desc := "(LGridTable;II[J)I" } : Jvm.MethodName)) ∈ lw_all := lw_g (lw_at lw_m11 82 rfl) rfl
theorem q2594 : (Jvm.Cond.static ({ cls := "GridTableLaw", name := "lies", desc := "(LGridTable;II[J)I" } : Jvm.MethodName)) ∈ lw_all := lw_g (lw_at lw_m11 83 rfl) rfl
theorem q2595 : (Jvm.Cond.codeWith ({ cls := "GridTableLaw", name := "lies", desc := "(LGridTable;II[J)I" } : Jvm.MethodName) method_9_code (5 : Nat) (Option.some Jvm.ClassFile.FieldType.int) [((0 : Nat), (10 : Nat), (13 : Nat), (24 : Nat))]) ∈ lw_all := lw_g (lw_at lw_m11 84 rfl) rfl
theorem q2596 : (Jvm.Cond.methodLink "GridTableLaw" (36 : Nat) ({ cls := "GridTable", name := "lies", desc := "(II)I" } : Jvm.MethodName)) ∈ lw_all := lw_g (lw_at lw_m11 85 rfl) rfl
theorem q2601 : (Jvm.Cond.methodLink "GridTableLaw" (116 : Nat) ({ cls := "GridTableLaw", name := "crosses", desc := "(LGridTable;II[J)I" } : Jvm.MethodName)) ∈ lw_all := lw_g (lw_at lw_m11 90 rfl) rfl
theorem q2602 : (Jvm.Cond.static ({ cls := "GridTableLaw", name := "crosses", desc := "(LGridTable;II[J)I" } : Jvm.MethodName)) ∈ lw_all := lw_g (lw_at lw_m11 91 rfl) rfl
theorem q2603 : (Jvm.Cond.codeWith ({ cls := "GridTableLaw", name := "crosses", desc := "(LGridTable;II[J)I" } : Jvm.MethodName) method_10_code (5 : Nat) (Option.some Jvm.ClassFile.FieldType.int) [((0 : Nat), (10 : Nat), (13 : Nat), (24 : Nat))]) ∈ lw_all := lw_g (lw_at lw_m11 92 rfl) rfl
theorem q2604 : (Jvm.Cond.methodLink "GridTableLaw" (39 : Nat) ({ cls := "GridTable", name := "crosses", desc := "(II)I" } : Jvm.MethodName)) ∈ lw_all := lw_g (lw_at lw_m11 93 rfl) rfl
theorem q2608 : (Jvm.Cond.methodLink "GridTableLaw" (119 : Nat) ({ cls := "GridTableLaw", name := "hull", desc := "(LGridTable;II[J)I" } : Jvm.MethodName)) ∈ lw_all := lw_g (lw_at lw_m11 97 rfl) rfl
theorem q2609 : (Jvm.Cond.static ({ cls := "GridTableLaw", name := "hull", desc := "(LGridTable;II[J)I" } : Jvm.MethodName)) ∈ lw_all := lw_g (lw_at lw_m11 98 rfl) rfl
theorem q2610 : (Jvm.Cond.codeWith ({ cls := "GridTableLaw", name := "hull", desc := "(LGridTable;II[J)I" } : Jvm.MethodName) method_11_code (5 : Nat) (Option.some Jvm.ClassFile.FieldType.int) [((0 : Nat), (10 : Nat), (13 : Nat), (24 : Nat))]) ∈ lw_all := lw_g (lw_at lw_m11 99 rfl) rfl
theorem q2611 : (Jvm.Cond.methodLink "GridTableLaw" (42 : Nat) ({ cls := "GridTable", name := "hull", desc := "(II)I" } : Jvm.MethodName)) ∈ lw_all := lw_g (lw_at lw_m11 100 rfl) rfl
theorem q2615 : (Jvm.Cond.methodLink "GridTableLaw" (122 : Nat) ({ cls := "GridTableLaw", name := "hullCorner", desc := "(LGridTable;II[J)I" } : Jvm.MethodName)) ∈ lw_all := lw_g (lw_at lw_m11 104 rfl) rfl
theorem q2616 : (Jvm.Cond.static ({ cls := "GridTableLaw", name := "hullCorner", desc := "(LGridTable;II[J)I" } : Jvm.MethodName)) ∈ lw_all := lw_g (lw_at lw_m11 105 rfl) rfl
theorem q2617 : (Jvm.Cond.codeWith ({ cls := "GridTableLaw", name := "hullCorner", desc := "(LGridTable;II[J)I" } : Jvm.MethodName) method_12_code (5 : Nat) (Option.some Jvm.ClassFile.FieldType.int) [((0 : Nat), (10 : Nat), (13 : Nat), (24 : Nat))]) ∈ lw_all := lw_g (lw_at lw_m11 106 rfl) rfl
theorem q2618 : (Jvm.Cond.methodLink "GridTableLaw" (45 : Nat) ({ cls := "GridTable", name := "hullCorner", desc := "(II)I" } : Jvm.MethodName)) ∈ lw_all := lw_g (lw_at lw_m11 107 rfl) rfl
theorem q2622 : (Jvm.Cond.methodLink "GridTableLaw" (125 : Nat) ({ cls := "GridTableLaw", name := "nearest", desc := "(LGridTable;II[J)I" } : Jvm.MethodName)) ∈ lw_all := lw_g (lw_at lw_m11 111 rfl) rfl
theorem q2623 : (Jvm.Cond.static ({ cls := "GridTableLaw", name := "nearest", desc := "(LGridTable;II[J)I" } : Jvm.MethodName)) ∈ lw_all := lw_g (lw_at lw_m11 112 rfl) rfl
theorem q2624 : (Jvm.Cond.codeWith ({ cls := "GridTableLaw", name := "nearest", desc := "(LGridTable;II[J)I" } : Jvm.MethodName) method_13_code (5 : Nat) (Option.some Jvm.ClassFile.FieldType.int) [((0 : Nat), (10 : Nat), (13 : Nat), (19 : Nat))]) ∈ lw_all := lw_g (lw_at lw_m11 113 rfl) rfl
theorem q2625 : (Jvm.Cond.methodLink "GridTableLaw" (48 : Nat) ({ cls := "GridTable", name := "nearest", desc := "(II)I" } : Jvm.MethodName)) ∈ lw_all := lw_g (lw_at lw_m11 114 rfl) rfl
theorem q2630 : (Jvm.Cond.methodLink "GridTableLaw" (128 : Nat) ({ cls := "GridTableLaw", name := "enter", desc := "(LGridTable;II[J)I" } : Jvm.MethodName)) ∈ lw_all := lw_g (lw_at lw_m11 119 rfl) rfl
theorem q2631 : (Jvm.Cond.static ({ cls := "GridTableLaw", name := "enter", desc := "(LGridTable;II[J)I" } : Jvm.MethodName)) ∈ lw_all := lw_g (lw_at lw_m11 120 rfl) rfl
theorem q2632 : (Jvm.Cond.codeWith ({ cls := "GridTableLaw", name := "enter", desc := "(LGridTable;II[J)I" } : Jvm.MethodName) method_14_code (5 : Nat) (Option.some Jvm.ClassFile.FieldType.int) [((0 : Nat), (10 : Nat), (13 : Nat), (24 : Nat))]) ∈ lw_all := lw_g (lw_at lw_m11 121 rfl) rfl
theorem q2633 : (Jvm.Cond.methodLink "GridTableLaw" (51 : Nat) ({ cls := "GridTable", name := "enter", desc := "(II)I" } : Jvm.MethodName)) ∈ lw_all := lw_g (lw_at lw_m11 122 rfl) rfl
theorem q2637 : (Jvm.Cond.methodLink "GridTableLaw" (131 : Nat) ({ cls := "GridTableLaw", name := "put", desc := "(LGridTable;III[J)I" } : Jvm.MethodName)) ∈ lw_all := lw_g (lw_at lw_m11 126 rfl) rfl
theorem q2638 : (Jvm.Cond.static ({ cls := "GridTableLaw", name := "put", desc := "(LGridTable;III[J)I" } : Jvm.MethodName)) ∈ lw_all := lw_g (lw_at lw_m11 127 rfl) rfl
theorem q2639 : (Jvm.Cond.codeWith ({ cls := "GridTableLaw", name := "put", desc := "(LGridTable;III[J)I" } : Jvm.MethodName) method_15_code (6 : Nat) (Option.some Jvm.ClassFile.FieldType.int) [((0 : Nat), (12 : Nat), (15 : Nat), (24 : Nat)), ((0 : Nat), (12 : Nat), (19 : Nat), (19 : Nat))]) ∈ lw_all := lw_g (lw_at lw_m11 128 rfl) rfl
theorem q2640 : (Jvm.Cond.methodLink "GridTableLaw" (54 : Nat) ({ cls := "GridTable", name := "put", desc := "(III)I" } : Jvm.MethodName)) ∈ lw_all := lw_g (lw_at lw_m11 129 rfl) rfl
theorem q2645 : (Jvm.Cond.methodLink "GridTableLaw" (135 : Nat) ({ cls := "GridTableLaw", name := "carry", desc := "(LGridTable;I[J)I" } : Jvm.MethodName)) ∈ lw_all := lw_g (lw_at lw_m11 134 rfl) rfl
theorem q2646 : (Jvm.Cond.static ({ cls := "GridTableLaw", name := "carry", desc := "(LGridTable;I[J)I" } : Jvm.MethodName)) ∈ lw_all := lw_g (lw_at lw_m11 135 rfl) rfl
theorem q2647 : (Jvm.Cond.codeWith ({ cls := "GridTableLaw", name := "carry", desc := "(LGridTable;I[J)I" } : Jvm.MethodName) method_16_code (4 : Nat) (Option.some Jvm.ClassFile.FieldType.int) [((0 : Nat), (16 : Nat), (19 : Nat), (24 : Nat))]) ∈ lw_all := lw_g (lw_at lw_m11 136 rfl) rfl
theorem q2648 : (Jvm.Cond.methodLink "GridTableLaw" (58 : Nat) ({ cls := "GridTable", name := "carry", desc := "(I)Z" } : Jvm.MethodName)) ∈ lw_all := lw_g (lw_at lw_m11 137 rfl) rfl
theorem q2653 : (Jvm.Cond.methodLink "GridTableLaw" (142 : Nat) ({ cls := "GridTableLaw", name := "undo", desc := "(LGridTable;[J)I" } : Jvm.MethodName)) ∈ lw_all := lw_g (lw_at lw_m11 142 rfl) rfl
theorem q2654 : (Jvm.Cond.static ({ cls := "GridTableLaw", name := "undo", desc := "(LGridTable;[J)I" } : Jvm.MethodName)) ∈ lw_all := lw_g (lw_at lw_m11 143 rfl) rfl
theorem q2655 : (Jvm.Cond.codeWith ({ cls := "GridTableLaw", name := "undo", desc := "(LGridTable;[J)I" } : Jvm.MethodName) method_17_code (3 : Nat) (Option.some Jvm.ClassFile.FieldType.int) [((0 : Nat), (8 : Nat), (11 : Nat), (13 : Nat))]) ∈ lw_all := lw_g (lw_at lw_m11 144 rfl) rfl
theorem q2656 : (Jvm.Cond.methodLink "GridTableLaw" (62 : Nat) ({ cls := "GridTable", name := "undo", desc := "()I" } : Jvm.MethodName)) ∈ lw_all := lw_g (lw_at lw_m11 145 rfl) rfl
theorem q2666 : (Jvm.Cond.methodLink "GridTableLaw" (146 : Nat) ({ cls := "GridTableLaw", name := "step", desc := "(LGridTable;II[J)I" } : Jvm.MethodName)) ∈ lw_all := lw_g (lw_at lw_m11 155 rfl) rfl
theorem q2667 : (Jvm.Cond.static ({ cls := "GridTableLaw", name := "step", desc := "(LGridTable;II[J)I" } : Jvm.MethodName)) ∈ lw_all := lw_g (lw_at lw_m11 156 rfl) rfl
theorem q2668 : (Jvm.Cond.codeWith ({ cls := "GridTableLaw", name := "step", desc := "(LGridTable;II[J)I" } : Jvm.MethodName) method_18_code (5 : Nat) (Option.some Jvm.ClassFile.FieldType.int) [((0 : Nat), (10 : Nat), (13 : Nat), (24 : Nat))]) ∈ lw_all := lw_g (lw_at lw_m11 157 rfl) rfl
theorem q2669 : (Jvm.Cond.methodLink "GridTableLaw" (66 : Nat) ({ cls := "GridTable", name := "step", desc := "(II)I" } : Jvm.MethodName)) ∈ lw_all := lw_g (lw_at lw_m11 158 rfl) rfl
theorem q2673 : (Jvm.Cond.methodLink "GridTableLaw" (149 : Nat) ({ cls := "GridTableLaw", name := "would", desc := "(LGridTable;I[J)I" } : Jvm.MethodName)) ∈ lw_all := lw_g (lw_at lw_m11 162 rfl) rfl
theorem q2674 : (Jvm.Cond.static ({ cls := "GridTableLaw", name := "would", desc := "(LGridTable;I[J)I" } : Jvm.MethodName)) ∈ lw_all := lw_g (lw_at lw_m11 163 rfl) rfl
theorem q2675 : (Jvm.Cond.codeWith ({ cls := "GridTableLaw", name := "would", desc := "(LGridTable;I[J)I" } : Jvm.MethodName) method_19_code (4 : Nat) (Option.some Jvm.ClassFile.FieldType.int) [((0 : Nat), (9 : Nat), (12 : Nat), (24 : Nat))]) ∈ lw_all := lw_g (lw_at lw_m11 164 rfl) rfl
theorem q2676 : (Jvm.Cond.methodLink "GridTableLaw" (69 : Nat) ({ cls := "GridTable", name := "would", desc := "(I)I" } : Jvm.MethodName)) ∈ lw_all := lw_g (lw_at lw_m11 165 rfl) rfl
theorem q2706 : (Jvm.Cond.methodLink "GridTableLaw" (152 : Nat) ({ cls := "GridTableLaw", name := "without", desc := "(LGridTable;I[J)I" } : Jvm.MethodName)) ∈ lw_all := lw_g (lw_at lw_m11 195 rfl) rfl
theorem q2707 : (Jvm.Cond.static ({ cls := "GridTableLaw", name := "without", desc := "(LGridTable;I[J)I" } : Jvm.MethodName)) ∈ lw_all := lw_g (lw_at lw_m11 196 rfl) rfl
theorem q2708 : (Jvm.Cond.codeWith ({ cls := "GridTableLaw", name := "without", desc := "(LGridTable;I[J)I" } : Jvm.MethodName) method_20_code (4 : Nat) (Option.some Jvm.ClassFile.FieldType.int) [((0 : Nat), (9 : Nat), (12 : Nat), (24 : Nat))]) ∈ lw_all := lw_g (lw_at lw_m11 197 rfl) rfl
theorem q2709 : (Jvm.Cond.methodLink "GridTableLaw" (72 : Nat) ({ cls := "GridTable", name := "without", desc := "(I)I" } : Jvm.MethodName)) ∈ lw_all := lw_g (lw_at lw_m11 198 rfl) rfl
theorem q2713 : (Jvm.Cond.classLink "GridTableLaw" (76 : Nat) "GridTableModel") ∈ lw_all := lw_g (lw_at lw_m11 202 rfl) rfl
theorem q2715 : (Jvm.Cond.methodLink "GridTableLaw" (78 : Nat) ({ cls := "GridTableModel", name := "<init>", desc := "()V" } : Jvm.MethodName)) ∈ lw_all := lw_g (lw_at lw_m11 204 rfl) rfl
theorem q2850 : (Jvm.Cond.methodLink "GridTableLaw" (85 : Nat) ({ cls := "GridTableModel", name := "thrown", desc := "()I" } : Jvm.MethodName)) ∈ lw_all := lw_g (lw_at lw_m12 99 rfl) rfl
theorem q2854 : (Jvm.Cond.methodLink "GridTableLaw" (84 : Nat) ({ cls := "GridTableModel", name := "feed", desc := "(IIIII)I" } : Jvm.MethodName)) ∈ lw_all := lw_g (lw_at lw_m12 103 rfl) rfl
theorem q2862 : (Jvm.Cond.methodLink "GridTableLaw" (91 : Nat) ({ cls := "GridTableModel", name := "trim", desc := "(I)I" } : Jvm.MethodName)) ∈ lw_all := lw_g (lw_at lw_m12 111 rfl) rfl
theorem q2869 : (Jvm.Cond.methodLink "GridTableLaw" (95 : Nat) ({ cls := "GridTableModel", name := "teach", desc := "()I" } : Jvm.MethodName)) ∈ lw_all := lw_g (lw_at lw_m12 118 rfl) rfl
theorem q3056 : (Jvm.Cond.methodLink "GridTableLaw" (99 : Nat) ({ cls := "GridTableModel", name := "errorAt", desc := "()I" } : Jvm.MethodName)) ∈ lw_all := lw_g (lw_at lw_m13 65 rfl) rfl
theorem q3060 : (Jvm.Cond.methodLink "GridTableLaw" (102 : Nat) ({ cls := "GridTableModel", name := "count", desc := "(I)I" } : Jvm.MethodName)) ∈ lw_all := lw_g (lw_at lw_m13 69 rfl) rfl
theorem q3100 : (Jvm.Cond.methodLink "GridTableLaw" (106 : Nat) ({ cls := "GridTableModel", name := "point", desc := "(II)I" } : Jvm.MethodName)) ∈ lw_all := lw_g (lw_at lw_m13 109 rfl) rfl
theorem q3116 : (Jvm.Cond.methodLink "GridTableLaw" (109 : Nat) ({ cls := "GridTableModel", name := "shape", desc := "(II)I" } : Jvm.MethodName)) ∈ lw_all := lw_g (lw_at lw_m13 125 rfl) rfl
theorem q3140 : (Jvm.Cond.methodLink "GridTableLaw" (112 : Nat) ({ cls := "GridTableModel", name := "corner", desc := "(II)I" } : Jvm.MethodName)) ∈ lw_all := lw_g (lw_at lw_m13 149 rfl) rfl
theorem q3144 : (Jvm.Cond.methodLink "GridTableLaw" (115 : Nat) ({ cls := "GridTableModel", name := "lies", desc := "(II)I" } : Jvm.MethodName)) ∈ lw_all := lw_g (lw_at lw_m13 153 rfl) rfl
theorem q3148 : (Jvm.Cond.methodLink "GridTableLaw" (118 : Nat) ({ cls := "GridTableModel", name := "crosses", desc := "(II)I" } : Jvm.MethodName)) ∈ lw_all := lw_g (lw_at lw_m13 157 rfl) rfl
theorem q3152 : (Jvm.Cond.methodLink "GridTableLaw" (121 : Nat) ({ cls := "GridTableModel", name := "hull", desc := "(II)I" } : Jvm.MethodName)) ∈ lw_all := lw_g (lw_at lw_m13 161 rfl) rfl
theorem q3188 : (Jvm.Cond.methodLink "GridTableLaw" (124 : Nat) ({ cls := "GridTableModel", name := "hullCorner", desc := "(II)I" } : Jvm.MethodName)) ∈ lw_all := lw_g (lw_at lw_m13 197 rfl) rfl
theorem q3192 : (Jvm.Cond.methodLink "GridTableLaw" (127 : Nat) ({ cls := "GridTableModel", name := "nearest", desc := "(II)I" } : Jvm.MethodName)) ∈ lw_all := lw_g (lw_at lw_m13 201 rfl) rfl
theorem q3196 : (Jvm.Cond.methodLink "GridTableLaw" (130 : Nat) ({ cls := "GridTableModel", name := "enter", desc := "(II)I" } : Jvm.MethodName)) ∈ lw_all := lw_g (lw_at lw_m13 205 rfl) rfl
theorem q3204 : (Jvm.Cond.methodLink "GridTableLaw" (134 : Nat) ({ cls := "GridTableModel", name := "put", desc := "(III)I" } : Jvm.MethodName)) ∈ lw_all := lw_g (lw_at lw_m13 213 rfl) rfl
theorem q3217 : (Jvm.Cond.methodLink "GridTableLaw" (137 : Nat) ({ cls := "GridTableModel", name := "carry", desc := "(I)Z" } : Jvm.MethodName)) ∈ lw_all := lw_g (lw_at lw_m13 226 rfl) rfl
theorem q3253 : (Jvm.Cond.methodLink "GridTableLaw" (141 : Nat) ({ cls := "GridTableModel", name := "run", desc := "()I" } : Jvm.MethodName)) ∈ lw_all := lw_g (lw_at lw_m14 22 rfl) rfl
theorem q3257 : (Jvm.Cond.methodLink "GridTableLaw" (145 : Nat) ({ cls := "GridTableModel", name := "undo", desc := "()I" } : Jvm.MethodName)) ∈ lw_all := lw_g (lw_at lw_m14 26 rfl) rfl
theorem q3261 : (Jvm.Cond.methodLink "GridTableLaw" (148 : Nat) ({ cls := "GridTableModel", name := "step", desc := "(II)I" } : Jvm.MethodName)) ∈ lw_all := lw_g (lw_at lw_m14 30 rfl) rfl
theorem q3269 : (Jvm.Cond.methodLink "GridTableLaw" (151 : Nat) ({ cls := "GridTableModel", name := "would", desc := "(I)I" } : Jvm.MethodName)) ∈ lw_all := lw_g (lw_at lw_m14 38 rfl) rfl
theorem q3277 : (Jvm.Cond.methodLink "GridTableLaw" (154 : Nat) ({ cls := "GridTableModel", name := "without", desc := "(I)I" } : Jvm.MethodName)) ∈ lw_all := lw_g (lw_at lw_m14 46 rfl) rfl
theorem q3281 : (Jvm.Cond.methodLink "GridTableLaw" (159 : Nat) ({ cls := "GridTableModel", name := "mean", desc := "()D" } : Jvm.MethodName)) ∈ lw_all := lw_g (lw_at lw_m14 50 rfl) rfl
theorem q3285 : (Jvm.Cond.methodLink "GridTableLaw" (164 : Nat) ({ cls := "GridTableModel", name := "digest", desc := "()J" } : Jvm.MethodName)) ∈ lw_all := lw_g (lw_at lw_m14 54 rfl) rfl

/-! GridTable -/
set_option maxRecDepth 100000
def RX1 : String := "GridTable"
def TX1 : u_T := fun k => match k with
  | 0 => ("GridTable", "tape", "LGridTable$Tape;", true)
  | 1 => ("GridTable", "errorAt", "I", false)
  | 2 => ("GridTable", "table", "LGridTable$Table;", false)
  | _ => ("GridTable", "ahead", "LGridTable$Table;", true)
def tyX1 : Nat → FieldType := fun k => match k with
  | 0 => .object "GridTable$Tape"
  | 1 => .int
  | 2 => .object "GridTable$Table"
  | _ => .object "GridTable$Table"
abbrev wsX10 : List Cond := u_ws RX1 TX1 4
theorem nmX1 : ∀ a, a < 4 → ∀ b, b < 4 → a ≠ b → (TX1 a).2.1 ≠ (TX1 b).2.1 := by decide +kernel
theorem tyX1_ok : ∀ k, k < 4 → parseFieldDescriptor (TX1 k).2.2.1 = some (tyX1 k) := by decide +kernel
abbrev cX1_init : ByteArray := prog_1_method_10_code
def yX1_init : MethodName := ⟨RX1, "<init>", "()V"⟩
def dkwX1_init_1 : List UInt8 := [89, 183, 0, 70, 181, 0, 71, 42, 187, 0, 68, 89, 183, 0, 70, 181, 0, 75, 177]
abbrev dktX1_init_1 : List UInt8 := dkwX1_init_1 ++ []
def dkwX1_init_0 : List UInt8 := [42, 183, 0, 54, 42, 187, 0, 57, 89, 183, 0, 59, 181, 0, 60, 42, 2, 181, 0, 64, 42, 187, 0, 68]
abbrev dktX1_init_0 : List UInt8 := dkwX1_init_0 ++ dktX1_init_1
theorem dksX1_init_0 : cX1_init.data.toList.drop 0 = dktX1_init_0 := by decide +kernel
theorem dksX1_init_1 : cX1_init.data.toList.drop 24 = dktX1_init_1 := dk_seg dksX1_init_0 24 rfl rfl
theorem dX1_init_0 : decode cX1_init 0 = .ok (.aload_n 0, 1) := dk_42 (dk_at dksX1_init_0 0 rfl rfl)
theorem dX1_init_1 : decode cX1_init 1 = .ok (.invokespecial 54, 3) := dk_183 0 54 (dk_at dksX1_init_0 1 rfl rfl)
theorem dX1_init_4 : decode cX1_init 4 = .ok (.aload_n 0, 1) := dk_42 (dk_at dksX1_init_0 4 rfl rfl)
theorem dX1_init_5 : decode cX1_init 5 = .ok (.new 57, 3) := dk_187 0 57 (dk_at dksX1_init_0 5 rfl rfl)
theorem dX1_init_8 : decode cX1_init 8 = .ok (.dup, 1) := dk_89 (dk_at dksX1_init_0 8 rfl rfl)
theorem dX1_init_9 : decode cX1_init 9 = .ok (.invokespecial 59, 3) := dk_183 0 59 (dk_at dksX1_init_0 9 rfl rfl)
theorem dX1_init_12 : decode cX1_init 12 = .ok (.putfield 60, 3) := dk_181 0 60 (dk_at dksX1_init_0 12 rfl rfl)
theorem dX1_init_15 : decode cX1_init 15 = .ok (.aload_n 0, 1) := dk_42 (dk_at dksX1_init_0 15 rfl rfl)
theorem dX1_init_16 : decode cX1_init 16 = .ok (.iconst (-1), 1) := dk_2 (dk_at dksX1_init_0 16 rfl rfl)
theorem dX1_init_17 : decode cX1_init 17 = .ok (.putfield 64, 3) := dk_181 0 64 (dk_at dksX1_init_0 17 rfl rfl)
theorem dX1_init_20 : decode cX1_init 20 = .ok (.aload_n 0, 1) := dk_42 (dk_at dksX1_init_0 20 rfl rfl)
theorem dX1_init_21 : decode cX1_init 21 = .ok (.new 68, 3) := dk_187 0 68 (dk_at dksX1_init_0 21 rfl rfl)
theorem dX1_init_24 : decode cX1_init 24 = .ok (.dup, 1) := dk_89 (dk_at dksX1_init_1 0 rfl rfl)
theorem dX1_init_25 : decode cX1_init 25 = .ok (.invokespecial 70, 3) := dk_183 0 70 (dk_at dksX1_init_1 1 rfl rfl)
theorem dX1_init_28 : decode cX1_init 28 = .ok (.putfield 71, 3) := dk_181 0 71 (dk_at dksX1_init_1 4 rfl rfl)
theorem dX1_init_31 : decode cX1_init 31 = .ok (.aload_n 0, 1) := dk_42 (dk_at dksX1_init_1 7 rfl rfl)
theorem dX1_init_32 : decode cX1_init 32 = .ok (.new 68, 3) := dk_187 0 68 (dk_at dksX1_init_1 8 rfl rfl)
theorem dX1_init_35 : decode cX1_init 35 = .ok (.dup, 1) := dk_89 (dk_at dksX1_init_1 11 rfl rfl)
theorem dX1_init_36 : decode cX1_init 36 = .ok (.invokespecial 70, 3) := dk_183 0 70 (dk_at dksX1_init_1 12 rfl rfl)
theorem dX1_init_39 : decode cX1_init 39 = .ok (.putfield 75, 3) := dk_181 0 75 (dk_at dksX1_init_1 15 rfl rfl)
theorem dX1_init_42 : decode cX1_init 42 = .ok (.return_, 1) := dk_177 (dk_at dksX1_init_1 18 rfl rfl)
abbrev cX1_teach : ByteArray := prog_1_method_13_code
def yX1_teach : MethodName := ⟨RX1, "teach", "()I"⟩
def dkwX1_teach_2 : List UInt8 := [180, 0, 114, 181, 0, 64, 42, 180, 0, 60, 3, 181, 0, 78, 27, 172]
abbrev dktX1_teach_2 : List UInt8 := dkwX1_teach_2 ++ []
def dkwX1_teach_1 : List UInt8 := [182, 0, 98, 183, 0, 102, 182, 0, 105, 181, 0, 71, 167, 0, 17, 77, 44, 180, 0, 111, 60, 42, 44]
abbrev dktX1_teach_1 : List UInt8 := dkwX1_teach_1 ++ dktX1_teach_2
def dkwX1_teach_0 : List UInt8 := [3, 60, 42, 2, 181, 0, 64, 42, 187, 0, 91, 89, 187, 0, 93, 89, 42, 180, 0, 60, 183, 0, 95]
abbrev dktX1_teach_0 : List UInt8 := dkwX1_teach_0 ++ dktX1_teach_1
theorem dksX1_teach_0 : cX1_teach.data.toList.drop 0 = dktX1_teach_0 := by decide +kernel
theorem dksX1_teach_1 : cX1_teach.data.toList.drop 23 = dktX1_teach_1 := dk_seg dksX1_teach_0 23 rfl rfl
theorem dksX1_teach_2 : cX1_teach.data.toList.drop 46 = dktX1_teach_2 := dk_seg dksX1_teach_1 23 rfl rfl
theorem dX1_teach_0 : decode cX1_teach 0 = .ok (.iconst 0, 1) := dk_3 (dk_at dksX1_teach_0 0 rfl rfl)
theorem dX1_teach_1 : decode cX1_teach 1 = .ok (.istore_n 1, 1) := dk_60 (dk_at dksX1_teach_0 1 rfl rfl)
theorem dX1_teach_2 : decode cX1_teach 2 = .ok (.aload_n 0, 1) := dk_42 (dk_at dksX1_teach_0 2 rfl rfl)
theorem dX1_teach_3 : decode cX1_teach 3 = .ok (.iconst (-1), 1) := dk_2 (dk_at dksX1_teach_0 3 rfl rfl)
theorem dX1_teach_4 : decode cX1_teach 4 = .ok (.putfield 64, 3) := dk_181 0 64 (dk_at dksX1_teach_0 4 rfl rfl)
theorem dX1_teach_7 : decode cX1_teach 7 = .ok (.aload_n 0, 1) := dk_42 (dk_at dksX1_teach_0 7 rfl rfl)
theorem dX1_teach_8 : decode cX1_teach 8 = .ok (.new 91, 3) := dk_187 0 91 (dk_at dksX1_teach_0 8 rfl rfl)
theorem dX1_teach_11 : decode cX1_teach 11 = .ok (.dup, 1) := dk_89 (dk_at dksX1_teach_0 11 rfl rfl)
theorem dX1_teach_12 : decode cX1_teach 12 = .ok (.new 93, 3) := dk_187 0 93 (dk_at dksX1_teach_0 12 rfl rfl)
theorem dX1_teach_15 : decode cX1_teach 15 = .ok (.dup, 1) := dk_89 (dk_at dksX1_teach_0 15 rfl rfl)
theorem dX1_teach_16 : decode cX1_teach 16 = .ok (.aload_n 0, 1) := dk_42 (dk_at dksX1_teach_0 16 rfl rfl)
theorem dX1_teach_17 : decode cX1_teach 17 = .ok (.getfield 60, 3) := dk_180 0 60 (dk_at dksX1_teach_0 17 rfl rfl)
theorem dX1_teach_20 : decode cX1_teach 20 = .ok (.invokespecial 95, 3) := dk_183 0 95 (dk_at dksX1_teach_0 20 rfl rfl)
theorem dX1_teach_23 : decode cX1_teach 23 = .ok (.invokevirtual 98, 3) := dk_182 0 98 (dk_at dksX1_teach_1 0 rfl rfl)
theorem dX1_teach_26 : decode cX1_teach 26 = .ok (.invokespecial 102, 3) := dk_183 0 102 (dk_at dksX1_teach_1 3 rfl rfl)
theorem dX1_teach_29 : decode cX1_teach 29 = .ok (.invokevirtual 105, 3) := dk_182 0 105 (dk_at dksX1_teach_1 6 rfl rfl)
theorem dX1_teach_32 : decode cX1_teach 32 = .ok (.putfield 71, 3) := dk_181 0 71 (dk_at dksX1_teach_1 9 rfl rfl)
theorem dX1_teach_35 : decode cX1_teach 35 = .ok (.goto 17, 3) := dk_167 0 17 (dk_at dksX1_teach_1 12 rfl rfl)
theorem dX1_teach_38 : decode cX1_teach 38 = .ok (.astore_n 2, 1) := dk_77 (dk_at dksX1_teach_1 15 rfl rfl)
theorem dX1_teach_39 : decode cX1_teach 39 = .ok (.aload_n 2, 1) := dk_44 (dk_at dksX1_teach_1 16 rfl rfl)
theorem dX1_teach_40 : decode cX1_teach 40 = .ok (.getfield 111, 3) := dk_180 0 111 (dk_at dksX1_teach_1 17 rfl rfl)
theorem dX1_teach_43 : decode cX1_teach 43 = .ok (.istore_n 1, 1) := dk_60 (dk_at dksX1_teach_1 20 rfl rfl)
theorem dX1_teach_44 : decode cX1_teach 44 = .ok (.aload_n 0, 1) := dk_42 (dk_at dksX1_teach_1 21 rfl rfl)
theorem dX1_teach_45 : decode cX1_teach 45 = .ok (.aload_n 2, 1) := dk_44 (dk_at dksX1_teach_1 22 rfl rfl)
theorem dX1_teach_46 : decode cX1_teach 46 = .ok (.getfield 114, 3) := dk_180 0 114 (dk_at dksX1_teach_2 0 rfl rfl)
theorem dX1_teach_49 : decode cX1_teach 49 = .ok (.putfield 64, 3) := dk_181 0 64 (dk_at dksX1_teach_2 3 rfl rfl)
theorem dX1_teach_52 : decode cX1_teach 52 = .ok (.aload_n 0, 1) := dk_42 (dk_at dksX1_teach_2 6 rfl rfl)
theorem dX1_teach_53 : decode cX1_teach 53 = .ok (.getfield 60, 3) := dk_180 0 60 (dk_at dksX1_teach_2 7 rfl rfl)
theorem dX1_teach_56 : decode cX1_teach 56 = .ok (.iconst 0, 1) := dk_3 (dk_at dksX1_teach_2 10 rfl rfl)
theorem dX1_teach_57 : decode cX1_teach 57 = .ok (.putfield 78, 3) := dk_181 0 78 (dk_at dksX1_teach_2 11 rfl rfl)
theorem dX1_teach_60 : decode cX1_teach 60 = .ok (.iload_n 1, 1) := dk_27 (dk_at dksX1_teach_2 14 rfl rfl)
theorem dX1_teach_61 : decode cX1_teach 61 = .ok (.ireturn, 1) := dk_172 (dk_at dksX1_teach_2 15 rfl rfl)
abbrev cX1_side : ByteArray := prog_1_method_6_code
def yX1_side : MethodName := ⟨RX1, "side", "(IIIIII)I"⟩
def dkwX1_side_0 : List UInt8 := [28, 26, 100, 21, 5, 27, 100, 104, 29, 27, 100, 21, 4, 26, 100, 104, 100, 172]
abbrev dktX1_side_0 : List UInt8 := dkwX1_side_0 ++ []
theorem dksX1_side_0 : cX1_side.data.toList.drop 0 = dktX1_side_0 := by decide +kernel
theorem dX1_side_0 : decode cX1_side 0 = .ok (.iload_n 2, 1) := dk_28 (dk_at dksX1_side_0 0 rfl rfl)
theorem dX1_side_1 : decode cX1_side 1 = .ok (.iload_n 0, 1) := dk_26 (dk_at dksX1_side_0 1 rfl rfl)
theorem dX1_side_2 : decode cX1_side 2 = .ok (.isub, 1) := dk_100 (dk_at dksX1_side_0 2 rfl rfl)
theorem dX1_side_3 : decode cX1_side 3 = .ok (.iload 5, 2) := dk_21 5 (dk_at dksX1_side_0 3 rfl rfl)
theorem dX1_side_5 : decode cX1_side 5 = .ok (.iload_n 1, 1) := dk_27 (dk_at dksX1_side_0 5 rfl rfl)
theorem dX1_side_6 : decode cX1_side 6 = .ok (.isub, 1) := dk_100 (dk_at dksX1_side_0 6 rfl rfl)
theorem dX1_side_7 : decode cX1_side 7 = .ok (.imul, 1) := dk_104 (dk_at dksX1_side_0 7 rfl rfl)
theorem dX1_side_8 : decode cX1_side 8 = .ok (.iload_n 3, 1) := dk_29 (dk_at dksX1_side_0 8 rfl rfl)
theorem dX1_side_9 : decode cX1_side 9 = .ok (.iload_n 1, 1) := dk_27 (dk_at dksX1_side_0 9 rfl rfl)
theorem dX1_side_10 : decode cX1_side 10 = .ok (.isub, 1) := dk_100 (dk_at dksX1_side_0 10 rfl rfl)
theorem dX1_side_11 : decode cX1_side 11 = .ok (.iload 4, 2) := dk_21 4 (dk_at dksX1_side_0 11 rfl rfl)
theorem dX1_side_13 : decode cX1_side 13 = .ok (.iload_n 0, 1) := dk_26 (dk_at dksX1_side_0 13 rfl rfl)
theorem dX1_side_14 : decode cX1_side 14 = .ok (.isub, 1) := dk_100 (dk_at dksX1_side_0 14 rfl rfl)
theorem dX1_side_15 : decode cX1_side 15 = .ok (.imul, 1) := dk_104 (dk_at dksX1_side_0 15 rfl rfl)
theorem dX1_side_16 : decode cX1_side 16 = .ok (.isub, 1) := dk_100 (dk_at dksX1_side_0 16 rfl rfl)
theorem dX1_side_17 : decode cX1_side 17 = .ok (.ireturn, 1) := dk_172 (dk_at dksX1_side_0 17 rfl rfl)
abbrev cX1_held : ByteArray := prog_1_method_8_code
def yX1_held : MethodName := ⟨RX1, "held", "(J)I"⟩
def dkwX1_held_0 : List UInt8 := [20, 0, 42, 20, 0, 44, 30, 184, 0, 46, 184, 0, 49, 136, 172]
abbrev dktX1_held_0 : List UInt8 := dkwX1_held_0 ++ []
theorem dksX1_held_0 : cX1_held.data.toList.drop 0 = dktX1_held_0 := by decide +kernel
theorem dX1_held_0 : decode cX1_held 0 = .ok (.ldc2_w 42, 3) := dk_20 0 42 (dk_at dksX1_held_0 0 rfl rfl)
theorem dX1_held_3 : decode cX1_held 3 = .ok (.ldc2_w 44, 3) := dk_20 0 44 (dk_at dksX1_held_0 3 rfl rfl)
theorem dX1_held_6 : decode cX1_held 6 = .ok (.lload_n 0, 1) := dk_30 (dk_at dksX1_held_0 6 rfl rfl)
theorem dX1_held_7 : decode cX1_held 7 = .ok (.invokestatic 46, 3) := dk_184 0 46 (dk_at dksX1_held_0 7 rfl rfl)
theorem dX1_held_10 : decode cX1_held 10 = .ok (.invokestatic 49, 3) := dk_184 0 49 (dk_at dksX1_held_0 10 rfl rfl)
theorem dX1_held_13 : decode cX1_held 13 = .ok (.l2i, 1) := dk_136 (dk_at dksX1_held_0 13 rfl rfl)
theorem dX1_held_14 : decode cX1_held 14 = .ok (.ireturn, 1) := dk_172 (dk_at dksX1_held_0 14 rfl rfl)
abbrev cX1_errorAt : ByteArray := prog_1_method_14_code
def yX1_errorAt : MethodName := ⟨RX1, "errorAt", "()I"⟩
theorem dX1_errorAt_0 : decode cX1_errorAt 0 = .ok (.aload_n 0, 1) := by decide +kernel
theorem dX1_errorAt_1 : decode cX1_errorAt 1 = .ok (.getfield 64, 3) := by decide +kernel
theorem dX1_errorAt_4 : decode cX1_errorAt 4 = .ok (.ireturn, 1) := by decide +kernel
abbrev cX1_run : ByteArray := prog_1_method_30_code
def yX1_run : MethodName := ⟨RX1, "run", "()I"⟩
def dkwX1_run_0 : List UInt8 := [42, 180, 0, 71, 42, 180, 0, 71, 182, 0, 228, 182, 0, 232, 42, 180, 0, 71, 182, 0, 243, 172]
abbrev dktX1_run_0 : List UInt8 := dkwX1_run_0 ++ []
theorem dksX1_run_0 : cX1_run.data.toList.drop 0 = dktX1_run_0 := by decide +kernel
theorem dX1_run_0 : decode cX1_run 0 = .ok (.aload_n 0, 1) := dk_42 (dk_at dksX1_run_0 0 rfl rfl)
theorem dX1_run_1 : decode cX1_run 1 = .ok (.getfield 71, 3) := dk_180 0 71 (dk_at dksX1_run_0 1 rfl rfl)
theorem dX1_run_4 : decode cX1_run 4 = .ok (.aload_n 0, 1) := dk_42 (dk_at dksX1_run_0 4 rfl rfl)
theorem dX1_run_5 : decode cX1_run 5 = .ok (.getfield 71, 3) := dk_180 0 71 (dk_at dksX1_run_0 5 rfl rfl)
theorem dX1_run_8 : decode cX1_run 8 = .ok (.invokevirtual 228, 3) := dk_182 0 228 (dk_at dksX1_run_0 8 rfl rfl)
theorem dX1_run_11 : decode cX1_run 11 = .ok (.invokevirtual 232, 3) := dk_182 0 232 (dk_at dksX1_run_0 11 rfl rfl)
theorem dX1_run_14 : decode cX1_run 14 = .ok (.aload_n 0, 1) := dk_42 (dk_at dksX1_run_0 14 rfl rfl)
theorem dX1_run_15 : decode cX1_run 15 = .ok (.getfield 71, 3) := dk_180 0 71 (dk_at dksX1_run_0 15 rfl rfl)
theorem dX1_run_18 : decode cX1_run 18 = .ok (.invokevirtual 243, 3) := dk_182 0 243 (dk_at dksX1_run_0 18 rfl rfl)
theorem dX1_run_21 : decode cX1_run 21 = .ok (.ireturn, 1) := dk_172 (dk_at dksX1_run_0 21 rfl rfl)
abbrev cX1_isBetween : ByteArray := prog_1_method_7_code
def yX1_isBetween : MethodName := ⟨RX1, "isBetween", "(III)Z"⟩
def dkwX1_isBetween_0 : List UInt8 := [26, 27, 184, 0, 33, 28, 163, 0, 16, 28, 26, 27, 184, 0, 39, 163, 0, 7, 4, 167, 0, 4, 3, 172]
abbrev dktX1_isBetween_0 : List UInt8 := dkwX1_isBetween_0 ++ []
theorem dksX1_isBetween_0 : cX1_isBetween.data.toList.drop 0 = dktX1_isBetween_0 := by decide +kernel
theorem dX1_isBetween_0 : decode cX1_isBetween 0 = .ok (.iload_n 0, 1) := dk_26 (dk_at dksX1_isBetween_0 0 rfl rfl)
theorem dX1_isBetween_1 : decode cX1_isBetween 1 = .ok (.iload_n 1, 1) := dk_27 (dk_at dksX1_isBetween_0 1 rfl rfl)
theorem dX1_isBetween_2 : decode cX1_isBetween 2 = .ok (.invokestatic 33, 3) := dk_184 0 33 (dk_at dksX1_isBetween_0 2 rfl rfl)
theorem dX1_isBetween_5 : decode cX1_isBetween 5 = .ok (.iload_n 2, 1) := dk_28 (dk_at dksX1_isBetween_0 5 rfl rfl)
theorem dX1_isBetween_6 : decode cX1_isBetween 6 = .ok (.if_icmp .gt 16, 3) := dk_163 0 16 (dk_at dksX1_isBetween_0 6 rfl rfl)
theorem dX1_isBetween_9 : decode cX1_isBetween 9 = .ok (.iload_n 2, 1) := dk_28 (dk_at dksX1_isBetween_0 9 rfl rfl)
theorem dX1_isBetween_10 : decode cX1_isBetween 10 = .ok (.iload_n 0, 1) := dk_26 (dk_at dksX1_isBetween_0 10 rfl rfl)
theorem dX1_isBetween_11 : decode cX1_isBetween 11 = .ok (.iload_n 1, 1) := dk_27 (dk_at dksX1_isBetween_0 11 rfl rfl)
theorem dX1_isBetween_12 : decode cX1_isBetween 12 = .ok (.invokestatic 39, 3) := dk_184 0 39 (dk_at dksX1_isBetween_0 12 rfl rfl)
theorem dX1_isBetween_15 : decode cX1_isBetween 15 = .ok (.if_icmp .gt 7, 3) := dk_163 0 7 (dk_at dksX1_isBetween_0 15 rfl rfl)
theorem dX1_isBetween_18 : decode cX1_isBetween 18 = .ok (.iconst 1, 1) := dk_4 (dk_at dksX1_isBetween_0 18 rfl rfl)
theorem dX1_isBetween_19 : decode cX1_isBetween 19 = .ok (.goto 4, 3) := dk_167 0 4 (dk_at dksX1_isBetween_0 19 rfl rfl)
theorem dX1_isBetween_22 : decode cX1_isBetween 22 = .ok (.iconst 0, 1) := dk_3 (dk_at dksX1_isBetween_0 22 rfl rfl)
theorem dX1_isBetween_23 : decode cX1_isBetween 23 = .ok (.ireturn, 1) := dk_172 (dk_at dksX1_isBetween_0 23 rfl rfl)
abbrev cX1_mean : ByteArray := prog_1_method_36_code
def yX1_mean : MethodName := ⟨RX1, "mean", "()D"⟩
def dkwX1_mean_1 : List UInt8 := [135, 42, 180, 0, 71, 180, 0, 120, 182, 0, 124, 135, 111, 175]
abbrev dktX1_mean_1 : List UInt8 := dkwX1_mean_1 ++ []
def dkwX1_mean_0 : List UInt8 := [42, 180, 0, 71, 180, 0, 120, 182, 0, 246, 153, 0, 7, 14, 167, 0, 23, 42, 180, 0, 71, 182, 0, 137]
abbrev dktX1_mean_0 : List UInt8 := dkwX1_mean_0 ++ dktX1_mean_1
theorem dksX1_mean_0 : cX1_mean.data.toList.drop 0 = dktX1_mean_0 := by decide +kernel
theorem dksX1_mean_1 : cX1_mean.data.toList.drop 24 = dktX1_mean_1 := dk_seg dksX1_mean_0 24 rfl rfl
theorem dX1_mean_0 : decode cX1_mean 0 = .ok (.aload_n 0, 1) := dk_42 (dk_at dksX1_mean_0 0 rfl rfl)
theorem dX1_mean_1 : decode cX1_mean 1 = .ok (.getfield 71, 3) := dk_180 0 71 (dk_at dksX1_mean_0 1 rfl rfl)
theorem dX1_mean_4 : decode cX1_mean 4 = .ok (.getfield 120, 3) := dk_180 0 120 (dk_at dksX1_mean_0 4 rfl rfl)
theorem dX1_mean_7 : decode cX1_mean 7 = .ok (.invokevirtual 246, 3) := dk_182 0 246 (dk_at dksX1_mean_0 7 rfl rfl)
theorem dX1_mean_10 : decode cX1_mean 10 = .ok (.ifCond .eq 7, 3) := dk_153 0 7 (dk_at dksX1_mean_0 10 rfl rfl)
theorem dX1_mean_13 : decode cX1_mean 13 = .ok (.dconst 0, 1) := dk_14 (dk_at dksX1_mean_0 13 rfl rfl)
theorem dX1_mean_14 : decode cX1_mean 14 = .ok (.goto 23, 3) := dk_167 0 23 (dk_at dksX1_mean_0 14 rfl rfl)
theorem dX1_mean_17 : decode cX1_mean 17 = .ok (.aload_n 0, 1) := dk_42 (dk_at dksX1_mean_0 17 rfl rfl)
theorem dX1_mean_18 : decode cX1_mean 18 = .ok (.getfield 71, 3) := dk_180 0 71 (dk_at dksX1_mean_0 18 rfl rfl)
theorem dX1_mean_21 : decode cX1_mean 21 = .ok (.invokevirtual 137, 3) := dk_182 0 137 (dk_at dksX1_mean_0 21 rfl rfl)
theorem dX1_mean_24 : decode cX1_mean 24 = .ok (.i2d, 1) := dk_135 (dk_at dksX1_mean_1 0 rfl rfl)
theorem dX1_mean_25 : decode cX1_mean 25 = .ok (.aload_n 0, 1) := dk_42 (dk_at dksX1_mean_1 1 rfl rfl)
theorem dX1_mean_26 : decode cX1_mean 26 = .ok (.getfield 71, 3) := dk_180 0 71 (dk_at dksX1_mean_1 2 rfl rfl)
theorem dX1_mean_29 : decode cX1_mean 29 = .ok (.getfield 120, 3) := dk_180 0 120 (dk_at dksX1_mean_1 5 rfl rfl)
theorem dX1_mean_32 : decode cX1_mean 32 = .ok (.invokevirtual 124, 3) := dk_182 0 124 (dk_at dksX1_mean_1 8 rfl rfl)
theorem dX1_mean_35 : decode cX1_mean 35 = .ok (.i2d, 1) := dk_135 (dk_at dksX1_mean_1 11 rfl rfl)
theorem dX1_mean_36 : decode cX1_mean 36 = .ok (.ddiv, 1) := dk_111 (dk_at dksX1_mean_1 12 rfl rfl)
theorem dX1_mean_37 : decode cX1_mean 37 = .ok (.dreturn, 1) := dk_175 (dk_at dksX1_mean_1 13 rfl rfl)
abbrev cX1_digest : ByteArray := prog_1_method_37_code
def yX1_digest : MethodName := ⟨RX1, "digest", "()J"⟩
def dkwX1_digest_11 : List UInt8 := [29, 21, 4, 182, 1, 28, 133, 97, 64, 132, 4, 1, 167, 255, 232, 132, 3, 1, 167, 255, 209, 31, 173]
abbrev dktX1_digest_11 : List UInt8 := dkwX1_digest_11 ++ []
def dkwX1_digest_10 : List UInt8 := [180, 0, 127, 182, 0, 124, 162, 0, 39, 3, 54, 4, 21, 4, 8, 162, 0, 24, 31, 20, 1, 37, 105, 42]
abbrev dktX1_digest_10 : List UInt8 := dkwX1_digest_10 ++ dktX1_digest_11
def dkwX1_digest_9 : List UInt8 := [105, 25, 6, 182, 0, 221, 133, 97, 64, 167, 255, 221, 167, 255, 125, 3, 62, 29, 42, 180, 0, 71]
abbrev dktX1_digest_9 : List UInt8 := dkwX1_digest_9 ++ dktX1_digest_10
def dkwX1_digest_8 : List UInt8 := [185, 0, 160, 1, 0, 153, 0, 31, 25, 5, 185, 0, 166, 1, 0, 192, 0, 185, 58, 6, 31, 20, 1, 37]
abbrev dktX1_digest_8 : List UInt8 := dkwX1_digest_8 ++ dktX1_digest_9
def dkwX1_digest_7 : List UInt8 := [133, 97, 64, 132, 5, 1, 167, 255, 232, 25, 4, 182, 0, 209, 185, 1, 42, 1, 0, 58, 5, 25, 5]
abbrev dktX1_digest_7 : List UInt8 := dkwX1_digest_7 ++ dktX1_digest_8
def dkwX1_digest_6 : List UInt8 := [167, 255, 231, 3, 54, 5, 21, 5, 6, 162, 0, 24, 31, 20, 1, 37, 105, 25, 4, 21, 5, 184, 0, 218]
abbrev dktX1_digest_6 : List UInt8 := dkwX1_digest_6 ++ dktX1_digest_7
def dkwX1_digest_5 : List UInt8 := [16, 6, 162, 0, 24, 31, 20, 1, 37, 105, 25, 4, 21, 5, 184, 0, 202, 133, 97, 64, 132, 5, 1]
abbrev dktX1_digest_5 : List UInt8 := dkwX1_digest_5 ++ dktX1_digest_6
def dkwX1_digest_4 : List UInt8 := [185, 0, 160, 1, 0, 153, 0, 128, 45, 185, 0, 166, 1, 0, 192, 0, 170, 58, 4, 3, 54, 5, 21, 5]
abbrev dktX1_digest_4 : List UInt8 := dkwX1_digest_4 ++ dktX1_digest_5
def dkwX1_digest_3 : List UInt8 := [167, 255, 232, 132, 3, 1, 167, 255, 212, 42, 180, 0, 71, 180, 0, 120, 182, 0, 156, 78, 45]
abbrev dktX1_digest_3 : List UInt8 := dkwX1_digest_3 ++ dktX1_digest_4
def dkwX1_digest_2 : List UInt8 := [21, 4, 7, 162, 0, 24, 31, 20, 1, 37, 105, 42, 29, 21, 4, 182, 0, 175, 133, 97, 64, 132, 4, 1]
abbrev dktX1_digest_2 : List UInt8 := dkwX1_digest_2 ++ dktX1_digest_3
def dkwX1_digest_1 : List UInt8 := [64, 132, 3, 1, 167, 255, 234, 3, 62, 29, 42, 180, 0, 71, 180, 0, 117, 162, 0, 39, 3, 54, 4]
abbrev dktX1_digest_1 : List UInt8 := dkwX1_digest_1 ++ dktX1_digest_2
def dkwX1_digest_0 : List UInt8 := [20, 1, 35, 64, 3, 62, 29, 16, 9, 162, 0, 22, 31, 20, 1, 37, 105, 42, 29, 182, 1, 39, 133, 97]
abbrev dktX1_digest_0 : List UInt8 := dkwX1_digest_0 ++ dktX1_digest_1
theorem dksX1_digest_0 : cX1_digest.data.toList.drop 0 = dktX1_digest_0 := by decide +kernel
theorem dksX1_digest_1 : cX1_digest.data.toList.drop 24 = dktX1_digest_1 := dk_seg dksX1_digest_0 24 rfl rfl
theorem dksX1_digest_2 : cX1_digest.data.toList.drop 47 = dktX1_digest_2 := dk_seg dksX1_digest_1 23 rfl rfl
theorem dksX1_digest_3 : cX1_digest.data.toList.drop 71 = dktX1_digest_3 := dk_seg dksX1_digest_2 24 rfl rfl
theorem dksX1_digest_4 : cX1_digest.data.toList.drop 92 = dktX1_digest_4 := dk_seg dksX1_digest_3 21 rfl rfl
theorem dksX1_digest_5 : cX1_digest.data.toList.drop 116 = dktX1_digest_5 := dk_seg dksX1_digest_4 24 rfl rfl
theorem dksX1_digest_6 : cX1_digest.data.toList.drop 139 = dktX1_digest_6 := dk_seg dksX1_digest_5 23 rfl rfl
theorem dksX1_digest_7 : cX1_digest.data.toList.drop 163 = dktX1_digest_7 := dk_seg dksX1_digest_6 24 rfl rfl
theorem dksX1_digest_8 : cX1_digest.data.toList.drop 186 = dktX1_digest_8 := dk_seg dksX1_digest_7 23 rfl rfl
theorem dksX1_digest_9 : cX1_digest.data.toList.drop 210 = dktX1_digest_9 := dk_seg dksX1_digest_8 24 rfl rfl
theorem dksX1_digest_10 : cX1_digest.data.toList.drop 232 = dktX1_digest_10 := dk_seg dksX1_digest_9 22 rfl rfl
theorem dksX1_digest_11 : cX1_digest.data.toList.drop 256 = dktX1_digest_11 := dk_seg dksX1_digest_10 24 rfl rfl
theorem dX1_digest_0 : decode cX1_digest 0 = .ok (.ldc2_w 291, 3) := dk_20 1 35 (dk_at dksX1_digest_0 0 rfl rfl)
theorem dX1_digest_3 : decode cX1_digest 3 = .ok (.lstore_n 1, 1) := dk_64 (dk_at dksX1_digest_0 3 rfl rfl)
theorem dX1_digest_4 : decode cX1_digest 4 = .ok (.iconst 0, 1) := dk_3 (dk_at dksX1_digest_0 4 rfl rfl)
theorem dX1_digest_5 : decode cX1_digest 5 = .ok (.istore_n 3, 1) := dk_62 (dk_at dksX1_digest_0 5 rfl rfl)
theorem dX1_digest_6 : decode cX1_digest 6 = .ok (.iload_n 3, 1) := dk_29 (dk_at dksX1_digest_0 6 rfl rfl)
theorem dX1_digest_7 : decode cX1_digest 7 = .ok (.bipush 9, 2) := dk_16 9 (dk_at dksX1_digest_0 7 rfl rfl)
theorem dX1_digest_9 : decode cX1_digest 9 = .ok (.if_icmp .ge 22, 3) := dk_162 0 22 (dk_at dksX1_digest_0 9 rfl rfl)
theorem dX1_digest_12 : decode cX1_digest 12 = .ok (.lload_n 1, 1) := dk_31 (dk_at dksX1_digest_0 12 rfl rfl)
theorem dX1_digest_13 : decode cX1_digest 13 = .ok (.ldc2_w 293, 3) := dk_20 1 37 (dk_at dksX1_digest_0 13 rfl rfl)
theorem dX1_digest_16 : decode cX1_digest 16 = .ok (.lmul, 1) := dk_105 (dk_at dksX1_digest_0 16 rfl rfl)
theorem dX1_digest_17 : decode cX1_digest 17 = .ok (.aload_n 0, 1) := dk_42 (dk_at dksX1_digest_0 17 rfl rfl)
theorem dX1_digest_18 : decode cX1_digest 18 = .ok (.iload_n 3, 1) := dk_29 (dk_at dksX1_digest_0 18 rfl rfl)
theorem dX1_digest_19 : decode cX1_digest 19 = .ok (.invokevirtual 295, 3) := dk_182 1 39 (dk_at dksX1_digest_0 19 rfl rfl)
theorem dX1_digest_22 : decode cX1_digest 22 = .ok (.i2l, 1) := dk_133 (dk_at dksX1_digest_0 22 rfl rfl)
theorem dX1_digest_23 : decode cX1_digest 23 = .ok (.ladd, 1) := dk_97 (dk_at dksX1_digest_0 23 rfl rfl)
theorem dX1_digest_24 : decode cX1_digest 24 = .ok (.lstore_n 1, 1) := dk_64 (dk_at dksX1_digest_1 0 rfl rfl)
theorem dX1_digest_25 : decode cX1_digest 25 = .ok (.iinc 3 1, 3) := dk_132 3 1 (dk_at dksX1_digest_1 1 rfl rfl)
theorem dX1_digest_28 : decode cX1_digest 28 = .ok (.goto (-22), 3) := dk_167 255 234 (dk_at dksX1_digest_1 4 rfl rfl)
theorem dX1_digest_31 : decode cX1_digest 31 = .ok (.iconst 0, 1) := dk_3 (dk_at dksX1_digest_1 7 rfl rfl)
theorem dX1_digest_32 : decode cX1_digest 32 = .ok (.istore_n 3, 1) := dk_62 (dk_at dksX1_digest_1 8 rfl rfl)
theorem dX1_digest_33 : decode cX1_digest 33 = .ok (.iload_n 3, 1) := dk_29 (dk_at dksX1_digest_1 9 rfl rfl)
theorem dX1_digest_34 : decode cX1_digest 34 = .ok (.aload_n 0, 1) := dk_42 (dk_at dksX1_digest_1 10 rfl rfl)
theorem dX1_digest_35 : decode cX1_digest 35 = .ok (.getfield 71, 3) := dk_180 0 71 (dk_at dksX1_digest_1 11 rfl rfl)
theorem dX1_digest_38 : decode cX1_digest 38 = .ok (.getfield 117, 3) := dk_180 0 117 (dk_at dksX1_digest_1 14 rfl rfl)
theorem dX1_digest_41 : decode cX1_digest 41 = .ok (.if_icmp .ge 39, 3) := dk_162 0 39 (dk_at dksX1_digest_1 17 rfl rfl)
theorem dX1_digest_44 : decode cX1_digest 44 = .ok (.iconst 0, 1) := dk_3 (dk_at dksX1_digest_1 20 rfl rfl)
theorem dX1_digest_45 : decode cX1_digest 45 = .ok (.istore 4, 2) := dk_54 4 (dk_at dksX1_digest_1 21 rfl rfl)
theorem dX1_digest_47 : decode cX1_digest 47 = .ok (.iload 4, 2) := dk_21 4 (dk_at dksX1_digest_2 0 rfl rfl)
theorem dX1_digest_49 : decode cX1_digest 49 = .ok (.iconst 4, 1) := dk_7 (dk_at dksX1_digest_2 2 rfl rfl)
theorem dX1_digest_50 : decode cX1_digest 50 = .ok (.if_icmp .ge 24, 3) := dk_162 0 24 (dk_at dksX1_digest_2 3 rfl rfl)
theorem dX1_digest_53 : decode cX1_digest 53 = .ok (.lload_n 1, 1) := dk_31 (dk_at dksX1_digest_2 6 rfl rfl)
theorem dX1_digest_54 : decode cX1_digest 54 = .ok (.ldc2_w 293, 3) := dk_20 1 37 (dk_at dksX1_digest_2 7 rfl rfl)
theorem dX1_digest_57 : decode cX1_digest 57 = .ok (.lmul, 1) := dk_105 (dk_at dksX1_digest_2 10 rfl rfl)
theorem dX1_digest_58 : decode cX1_digest 58 = .ok (.aload_n 0, 1) := dk_42 (dk_at dksX1_digest_2 11 rfl rfl)
theorem dX1_digest_59 : decode cX1_digest 59 = .ok (.iload_n 3, 1) := dk_29 (dk_at dksX1_digest_2 12 rfl rfl)
theorem dX1_digest_60 : decode cX1_digest 60 = .ok (.iload 4, 2) := dk_21 4 (dk_at dksX1_digest_2 13 rfl rfl)
theorem dX1_digest_62 : decode cX1_digest 62 = .ok (.invokevirtual 175, 3) := dk_182 0 175 (dk_at dksX1_digest_2 15 rfl rfl)
theorem dX1_digest_65 : decode cX1_digest 65 = .ok (.i2l, 1) := dk_133 (dk_at dksX1_digest_2 18 rfl rfl)
theorem dX1_digest_66 : decode cX1_digest 66 = .ok (.ladd, 1) := dk_97 (dk_at dksX1_digest_2 19 rfl rfl)
theorem dX1_digest_67 : decode cX1_digest 67 = .ok (.lstore_n 1, 1) := dk_64 (dk_at dksX1_digest_2 20 rfl rfl)
theorem dX1_digest_68 : decode cX1_digest 68 = .ok (.iinc 4 1, 3) := dk_132 4 1 (dk_at dksX1_digest_2 21 rfl rfl)
theorem dX1_digest_71 : decode cX1_digest 71 = .ok (.goto (-24), 3) := dk_167 255 232 (dk_at dksX1_digest_3 0 rfl rfl)
theorem dX1_digest_74 : decode cX1_digest 74 = .ok (.iinc 3 1, 3) := dk_132 3 1 (dk_at dksX1_digest_3 3 rfl rfl)
theorem dX1_digest_77 : decode cX1_digest 77 = .ok (.goto (-44), 3) := dk_167 255 212 (dk_at dksX1_digest_3 6 rfl rfl)
theorem dX1_digest_80 : decode cX1_digest 80 = .ok (.aload_n 0, 1) := dk_42 (dk_at dksX1_digest_3 9 rfl rfl)
theorem dX1_digest_81 : decode cX1_digest 81 = .ok (.getfield 71, 3) := dk_180 0 71 (dk_at dksX1_digest_3 10 rfl rfl)
theorem dX1_digest_84 : decode cX1_digest 84 = .ok (.getfield 120, 3) := dk_180 0 120 (dk_at dksX1_digest_3 13 rfl rfl)
theorem dX1_digest_87 : decode cX1_digest 87 = .ok (.invokevirtual 156, 3) := dk_182 0 156 (dk_at dksX1_digest_3 16 rfl rfl)
theorem dX1_digest_90 : decode cX1_digest 90 = .ok (.astore_n 3, 1) := dk_78 (dk_at dksX1_digest_3 19 rfl rfl)
theorem dX1_digest_91 : decode cX1_digest 91 = .ok (.aload_n 3, 1) := dk_45 (dk_at dksX1_digest_3 20 rfl rfl)
theorem dX1_digest_92 : decode cX1_digest 92 = .ok (.invokeinterface 160 1, 5) := by decide +kernel
theorem dX1_digest_97 : decode cX1_digest 97 = .ok (.ifCond .eq 128, 3) := dk_153 0 128 (dk_at dksX1_digest_4 5 rfl rfl)
theorem dX1_digest_100 : decode cX1_digest 100 = .ok (.aload_n 3, 1) := dk_45 (dk_at dksX1_digest_4 8 rfl rfl)
theorem dX1_digest_101 : decode cX1_digest 101 = .ok (.invokeinterface 166 1, 5) := by decide +kernel
theorem dX1_digest_106 : decode cX1_digest 106 = .ok (.checkcast 170, 3) := dk_192 0 170 (dk_at dksX1_digest_4 14 rfl rfl)
theorem dX1_digest_109 : decode cX1_digest 109 = .ok (.astore 4, 2) := dk_58 4 (dk_at dksX1_digest_4 17 rfl rfl)
theorem dX1_digest_111 : decode cX1_digest 111 = .ok (.iconst 0, 1) := dk_3 (dk_at dksX1_digest_4 19 rfl rfl)
theorem dX1_digest_112 : decode cX1_digest 112 = .ok (.istore 5, 2) := dk_54 5 (dk_at dksX1_digest_4 20 rfl rfl)
theorem dX1_digest_114 : decode cX1_digest 114 = .ok (.iload 5, 2) := dk_21 5 (dk_at dksX1_digest_4 22 rfl rfl)
theorem dX1_digest_116 : decode cX1_digest 116 = .ok (.bipush 6, 2) := dk_16 6 (dk_at dksX1_digest_5 0 rfl rfl)
theorem dX1_digest_118 : decode cX1_digest 118 = .ok (.if_icmp .ge 24, 3) := dk_162 0 24 (dk_at dksX1_digest_5 2 rfl rfl)
theorem dX1_digest_121 : decode cX1_digest 121 = .ok (.lload_n 1, 1) := dk_31 (dk_at dksX1_digest_5 5 rfl rfl)
theorem dX1_digest_122 : decode cX1_digest 122 = .ok (.ldc2_w 293, 3) := dk_20 1 37 (dk_at dksX1_digest_5 6 rfl rfl)
theorem dX1_digest_125 : decode cX1_digest 125 = .ok (.lmul, 1) := dk_105 (dk_at dksX1_digest_5 9 rfl rfl)
theorem dX1_digest_126 : decode cX1_digest 126 = .ok (.aload 4, 2) := dk_25 4 (dk_at dksX1_digest_5 10 rfl rfl)
theorem dX1_digest_128 : decode cX1_digest 128 = .ok (.iload 5, 2) := dk_21 5 (dk_at dksX1_digest_5 12 rfl rfl)
theorem dX1_digest_130 : decode cX1_digest 130 = .ok (.invokestatic 202, 3) := dk_184 0 202 (dk_at dksX1_digest_5 14 rfl rfl)
theorem dX1_digest_133 : decode cX1_digest 133 = .ok (.i2l, 1) := dk_133 (dk_at dksX1_digest_5 17 rfl rfl)
theorem dX1_digest_134 : decode cX1_digest 134 = .ok (.ladd, 1) := dk_97 (dk_at dksX1_digest_5 18 rfl rfl)
theorem dX1_digest_135 : decode cX1_digest 135 = .ok (.lstore_n 1, 1) := dk_64 (dk_at dksX1_digest_5 19 rfl rfl)
theorem dX1_digest_136 : decode cX1_digest 136 = .ok (.iinc 5 1, 3) := dk_132 5 1 (dk_at dksX1_digest_5 20 rfl rfl)
theorem dX1_digest_139 : decode cX1_digest 139 = .ok (.goto (-25), 3) := dk_167 255 231 (dk_at dksX1_digest_6 0 rfl rfl)
theorem dX1_digest_142 : decode cX1_digest 142 = .ok (.iconst 0, 1) := dk_3 (dk_at dksX1_digest_6 3 rfl rfl)
theorem dX1_digest_143 : decode cX1_digest 143 = .ok (.istore 5, 2) := dk_54 5 (dk_at dksX1_digest_6 4 rfl rfl)
theorem dX1_digest_145 : decode cX1_digest 145 = .ok (.iload 5, 2) := dk_21 5 (dk_at dksX1_digest_6 6 rfl rfl)
theorem dX1_digest_147 : decode cX1_digest 147 = .ok (.iconst 3, 1) := dk_6 (dk_at dksX1_digest_6 8 rfl rfl)
theorem dX1_digest_148 : decode cX1_digest 148 = .ok (.if_icmp .ge 24, 3) := dk_162 0 24 (dk_at dksX1_digest_6 9 rfl rfl)
theorem dX1_digest_151 : decode cX1_digest 151 = .ok (.lload_n 1, 1) := dk_31 (dk_at dksX1_digest_6 12 rfl rfl)
theorem dX1_digest_152 : decode cX1_digest 152 = .ok (.ldc2_w 293, 3) := dk_20 1 37 (dk_at dksX1_digest_6 13 rfl rfl)
theorem dX1_digest_155 : decode cX1_digest 155 = .ok (.lmul, 1) := dk_105 (dk_at dksX1_digest_6 16 rfl rfl)
theorem dX1_digest_156 : decode cX1_digest 156 = .ok (.aload 4, 2) := dk_25 4 (dk_at dksX1_digest_6 17 rfl rfl)
theorem dX1_digest_158 : decode cX1_digest 158 = .ok (.iload 5, 2) := dk_21 5 (dk_at dksX1_digest_6 19 rfl rfl)
theorem dX1_digest_160 : decode cX1_digest 160 = .ok (.invokestatic 218, 3) := dk_184 0 218 (dk_at dksX1_digest_6 21 rfl rfl)
theorem dX1_digest_163 : decode cX1_digest 163 = .ok (.i2l, 1) := dk_133 (dk_at dksX1_digest_7 0 rfl rfl)
theorem dX1_digest_164 : decode cX1_digest 164 = .ok (.ladd, 1) := dk_97 (dk_at dksX1_digest_7 1 rfl rfl)
theorem dX1_digest_165 : decode cX1_digest 165 = .ok (.lstore_n 1, 1) := dk_64 (dk_at dksX1_digest_7 2 rfl rfl)
theorem dX1_digest_166 : decode cX1_digest 166 = .ok (.iinc 5 1, 3) := dk_132 5 1 (dk_at dksX1_digest_7 3 rfl rfl)
theorem dX1_digest_169 : decode cX1_digest 169 = .ok (.goto (-24), 3) := dk_167 255 232 (dk_at dksX1_digest_7 6 rfl rfl)
theorem dX1_digest_172 : decode cX1_digest 172 = .ok (.aload 4, 2) := dk_25 4 (dk_at dksX1_digest_7 9 rfl rfl)
theorem dX1_digest_174 : decode cX1_digest 174 = .ok (.invokevirtual 209, 3) := dk_182 0 209 (dk_at dksX1_digest_7 11 rfl rfl)
theorem dX1_digest_177 : decode cX1_digest 177 = .ok (.invokeinterface 298 1, 5) := by decide +kernel
theorem dX1_digest_182 : decode cX1_digest 182 = .ok (.astore 5, 2) := dk_58 5 (dk_at dksX1_digest_7 19 rfl rfl)
theorem dX1_digest_184 : decode cX1_digest 184 = .ok (.aload 5, 2) := dk_25 5 (dk_at dksX1_digest_7 21 rfl rfl)
theorem dX1_digest_186 : decode cX1_digest 186 = .ok (.invokeinterface 160 1, 5) := by decide +kernel
theorem dX1_digest_191 : decode cX1_digest 191 = .ok (.ifCond .eq 31, 3) := dk_153 0 31 (dk_at dksX1_digest_8 5 rfl rfl)
theorem dX1_digest_194 : decode cX1_digest 194 = .ok (.aload 5, 2) := dk_25 5 (dk_at dksX1_digest_8 8 rfl rfl)
theorem dX1_digest_196 : decode cX1_digest 196 = .ok (.invokeinterface 166 1, 5) := by decide +kernel
theorem dX1_digest_201 : decode cX1_digest 201 = .ok (.checkcast 185, 3) := dk_192 0 185 (dk_at dksX1_digest_8 15 rfl rfl)
theorem dX1_digest_204 : decode cX1_digest 204 = .ok (.astore 6, 2) := dk_58 6 (dk_at dksX1_digest_8 18 rfl rfl)
theorem dX1_digest_206 : decode cX1_digest 206 = .ok (.lload_n 1, 1) := dk_31 (dk_at dksX1_digest_8 20 rfl rfl)
theorem dX1_digest_207 : decode cX1_digest 207 = .ok (.ldc2_w 293, 3) := dk_20 1 37 (dk_at dksX1_digest_8 21 rfl rfl)
theorem dX1_digest_210 : decode cX1_digest 210 = .ok (.lmul, 1) := dk_105 (dk_at dksX1_digest_9 0 rfl rfl)
theorem dX1_digest_211 : decode cX1_digest 211 = .ok (.aload 6, 2) := dk_25 6 (dk_at dksX1_digest_9 1 rfl rfl)
theorem dX1_digest_213 : decode cX1_digest 213 = .ok (.invokevirtual 221, 3) := dk_182 0 221 (dk_at dksX1_digest_9 3 rfl rfl)
theorem dX1_digest_216 : decode cX1_digest 216 = .ok (.i2l, 1) := dk_133 (dk_at dksX1_digest_9 6 rfl rfl)
theorem dX1_digest_217 : decode cX1_digest 217 = .ok (.ladd, 1) := dk_97 (dk_at dksX1_digest_9 7 rfl rfl)
theorem dX1_digest_218 : decode cX1_digest 218 = .ok (.lstore_n 1, 1) := dk_64 (dk_at dksX1_digest_9 8 rfl rfl)
theorem dX1_digest_219 : decode cX1_digest 219 = .ok (.goto (-35), 3) := dk_167 255 221 (dk_at dksX1_digest_9 9 rfl rfl)
theorem dX1_digest_222 : decode cX1_digest 222 = .ok (.goto (-131), 3) := dk_167 255 125 (dk_at dksX1_digest_9 12 rfl rfl)
theorem dX1_digest_225 : decode cX1_digest 225 = .ok (.iconst 0, 1) := dk_3 (dk_at dksX1_digest_9 15 rfl rfl)
theorem dX1_digest_226 : decode cX1_digest 226 = .ok (.istore_n 3, 1) := dk_62 (dk_at dksX1_digest_9 16 rfl rfl)
theorem dX1_digest_227 : decode cX1_digest 227 = .ok (.iload_n 3, 1) := dk_29 (dk_at dksX1_digest_9 17 rfl rfl)
theorem dX1_digest_228 : decode cX1_digest 228 = .ok (.aload_n 0, 1) := dk_42 (dk_at dksX1_digest_9 18 rfl rfl)
theorem dX1_digest_229 : decode cX1_digest 229 = .ok (.getfield 71, 3) := dk_180 0 71 (dk_at dksX1_digest_9 19 rfl rfl)
theorem dX1_digest_232 : decode cX1_digest 232 = .ok (.getfield 127, 3) := dk_180 0 127 (dk_at dksX1_digest_10 0 rfl rfl)
theorem dX1_digest_235 : decode cX1_digest 235 = .ok (.invokevirtual 124, 3) := dk_182 0 124 (dk_at dksX1_digest_10 3 rfl rfl)
theorem dX1_digest_238 : decode cX1_digest 238 = .ok (.if_icmp .ge 39, 3) := dk_162 0 39 (dk_at dksX1_digest_10 6 rfl rfl)
theorem dX1_digest_241 : decode cX1_digest 241 = .ok (.iconst 0, 1) := dk_3 (dk_at dksX1_digest_10 9 rfl rfl)
theorem dX1_digest_242 : decode cX1_digest 242 = .ok (.istore 4, 2) := dk_54 4 (dk_at dksX1_digest_10 10 rfl rfl)
theorem dX1_digest_244 : decode cX1_digest 244 = .ok (.iload 4, 2) := dk_21 4 (dk_at dksX1_digest_10 12 rfl rfl)
theorem dX1_digest_246 : decode cX1_digest 246 = .ok (.iconst 5, 1) := dk_8 (dk_at dksX1_digest_10 14 rfl rfl)
theorem dX1_digest_247 : decode cX1_digest 247 = .ok (.if_icmp .ge 24, 3) := dk_162 0 24 (dk_at dksX1_digest_10 15 rfl rfl)
theorem dX1_digest_250 : decode cX1_digest 250 = .ok (.lload_n 1, 1) := dk_31 (dk_at dksX1_digest_10 18 rfl rfl)
theorem dX1_digest_251 : decode cX1_digest 251 = .ok (.ldc2_w 293, 3) := dk_20 1 37 (dk_at dksX1_digest_10 19 rfl rfl)
theorem dX1_digest_254 : decode cX1_digest 254 = .ok (.lmul, 1) := dk_105 (dk_at dksX1_digest_10 22 rfl rfl)
theorem dX1_digest_255 : decode cX1_digest 255 = .ok (.aload_n 0, 1) := dk_42 (dk_at dksX1_digest_10 23 rfl rfl)
theorem dX1_digest_256 : decode cX1_digest 256 = .ok (.iload_n 3, 1) := dk_29 (dk_at dksX1_digest_11 0 rfl rfl)
theorem dX1_digest_257 : decode cX1_digest 257 = .ok (.iload 4, 2) := dk_21 4 (dk_at dksX1_digest_11 1 rfl rfl)
theorem dX1_digest_259 : decode cX1_digest 259 = .ok (.invokevirtual 284, 3) := dk_182 1 28 (dk_at dksX1_digest_11 3 rfl rfl)
theorem dX1_digest_262 : decode cX1_digest 262 = .ok (.i2l, 1) := dk_133 (dk_at dksX1_digest_11 6 rfl rfl)
theorem dX1_digest_263 : decode cX1_digest 263 = .ok (.ladd, 1) := dk_97 (dk_at dksX1_digest_11 7 rfl rfl)
theorem dX1_digest_264 : decode cX1_digest 264 = .ok (.lstore_n 1, 1) := dk_64 (dk_at dksX1_digest_11 8 rfl rfl)
theorem dX1_digest_265 : decode cX1_digest 265 = .ok (.iinc 4 1, 3) := dk_132 4 1 (dk_at dksX1_digest_11 9 rfl rfl)
theorem dX1_digest_268 : decode cX1_digest 268 = .ok (.goto (-24), 3) := dk_167 255 232 (dk_at dksX1_digest_11 12 rfl rfl)
theorem dX1_digest_271 : decode cX1_digest 271 = .ok (.iinc 3 1, 3) := dk_132 3 1 (dk_at dksX1_digest_11 15 rfl rfl)
theorem dX1_digest_274 : decode cX1_digest 274 = .ok (.goto (-47), 3) := dk_167 255 209 (dk_at dksX1_digest_11 18 rfl rfl)
theorem dX1_digest_277 : decode cX1_digest 277 = .ok (.lload_n 1, 1) := dk_31 (dk_at dksX1_digest_11 21 rfl rfl)
theorem dX1_digest_278 : decode cX1_digest 278 = .ok (.lreturn, 1) := dk_173 (dk_at dksX1_digest_11 22 rfl rfl)
abbrev cX1_count : ByteArray := prog_1_method_15_code
def yX1_count : MethodName := ⟨RX1, "count", "(I)I"⟩
def dkwX1_count_6 : List UInt8 := [180, 0, 71, 182, 0, 140, 172, 42, 180, 0, 71, 182, 0, 143, 172, 42, 180, 0, 60, 180, 0, 78, 172]
abbrev dktX1_count_6 : List UInt8 := dkwX1_count_6 ++ []
def dkwX1_count_5 : List UInt8 := [28, 172, 42, 180, 0, 71, 180, 0, 134, 182, 0, 124, 172, 42, 180, 0, 71, 182, 0, 137, 172, 42]
abbrev dktX1_count_5 : List UInt8 := dkwX1_count_5 ++ dktX1_count_6
def dkwX1_count_4 : List UInt8 := [21, 5, 21, 4, 162, 0, 20, 45, 21, 5, 46, 54, 6, 28, 21, 6, 96, 61, 132, 5, 1, 167, 255, 235]
abbrev dktX1_count_4 : List UInt8 := dkwX1_count_4 ++ dktX1_count_5
def dkwX1_count_3 : List UInt8 := [180, 0, 127, 182, 0, 124, 172, 3, 61, 42, 180, 0, 71, 180, 0, 130, 78, 45, 190, 54, 4, 3, 54, 5]
abbrev dktX1_count_3 : List UInt8 := dkwX1_count_3 ++ dktX1_count_4
def dkwX1_count_2 : List UInt8 := [42, 180, 0, 71, 180, 0, 117, 172, 42, 180, 0, 71, 180, 0, 120, 182, 0, 124, 172, 42, 180, 0, 71]
abbrev dktX1_count_2 : List UInt8 := dkwX1_count_2 ++ dktX1_count_3
def dkwX1_count_1 : List UInt8 := [170, 0, 0, 0, 153, 0, 0, 0, 0, 0, 0, 0, 7, 0, 0, 0, 45, 0, 0, 0, 53, 0, 0, 0, 64, 0, 0, 0, 75, 0, 0, 0, 118, 0, 0, 0, 129, 0, 0, 0, 137, 0, 0, 0, 145]
abbrev dktX1_count_1 : List UInt8 := dkwX1_count_1 ++ dktX1_count_2
def dkwX1_count_0 : List UInt8 := [27, 16, 9, 184, 0, 25, 27]
abbrev dktX1_count_0 : List UInt8 := dkwX1_count_0 ++ dktX1_count_1
theorem dksX1_count_0 : cX1_count.data.toList.drop 0 = dktX1_count_0 := by decide +kernel
theorem dksX1_count_1 : cX1_count.data.toList.drop 7 = dktX1_count_1 := dk_seg dksX1_count_0 7 rfl rfl
theorem dksX1_count_2 : cX1_count.data.toList.drop 52 = dktX1_count_2 := dk_seg dksX1_count_1 45 rfl rfl
theorem dksX1_count_3 : cX1_count.data.toList.drop 75 = dktX1_count_3 := dk_seg dksX1_count_2 23 rfl rfl
theorem dksX1_count_4 : cX1_count.data.toList.drop 99 = dktX1_count_4 := dk_seg dksX1_count_3 24 rfl rfl
theorem dksX1_count_5 : cX1_count.data.toList.drop 123 = dktX1_count_5 := dk_seg dksX1_count_4 24 rfl rfl
theorem dksX1_count_6 : cX1_count.data.toList.drop 145 = dktX1_count_6 := dk_seg dksX1_count_5 22 rfl rfl
theorem dX1_count_0 : decode cX1_count 0 = .ok (.iload_n 1, 1) := dk_27 (dk_at dksX1_count_0 0 rfl rfl)
theorem dX1_count_1 : decode cX1_count 1 = .ok (.bipush 9, 2) := dk_16 9 (dk_at dksX1_count_0 1 rfl rfl)
theorem dX1_count_3 : decode cX1_count 3 = .ok (.invokestatic 25, 3) := dk_184 0 25 (dk_at dksX1_count_0 3 rfl rfl)
theorem dX1_count_6 : decode cX1_count 6 = .ok (.iload_n 1, 1) := dk_27 (dk_at dksX1_count_0 6 rfl rfl)
theorem dX1_count_7 : decode cX1_count 7 = .ok (.tableswitch 153 0 7 #[45, 53, 64, 75, 118, 129, 137, 145], 45) := by decide +kernel
theorem dX1_count_52 : decode cX1_count 52 = .ok (.aload_n 0, 1) := dk_42 (dk_at dksX1_count_2 0 rfl rfl)
theorem dX1_count_53 : decode cX1_count 53 = .ok (.getfield 71, 3) := dk_180 0 71 (dk_at dksX1_count_2 1 rfl rfl)
theorem dX1_count_56 : decode cX1_count 56 = .ok (.getfield 117, 3) := dk_180 0 117 (dk_at dksX1_count_2 4 rfl rfl)
theorem dX1_count_59 : decode cX1_count 59 = .ok (.ireturn, 1) := dk_172 (dk_at dksX1_count_2 7 rfl rfl)
theorem dX1_count_60 : decode cX1_count 60 = .ok (.aload_n 0, 1) := dk_42 (dk_at dksX1_count_2 8 rfl rfl)
theorem dX1_count_61 : decode cX1_count 61 = .ok (.getfield 71, 3) := dk_180 0 71 (dk_at dksX1_count_2 9 rfl rfl)
theorem dX1_count_64 : decode cX1_count 64 = .ok (.getfield 120, 3) := dk_180 0 120 (dk_at dksX1_count_2 12 rfl rfl)
theorem dX1_count_67 : decode cX1_count 67 = .ok (.invokevirtual 124, 3) := dk_182 0 124 (dk_at dksX1_count_2 15 rfl rfl)
theorem dX1_count_70 : decode cX1_count 70 = .ok (.ireturn, 1) := dk_172 (dk_at dksX1_count_2 18 rfl rfl)
theorem dX1_count_71 : decode cX1_count 71 = .ok (.aload_n 0, 1) := dk_42 (dk_at dksX1_count_2 19 rfl rfl)
theorem dX1_count_72 : decode cX1_count 72 = .ok (.getfield 71, 3) := dk_180 0 71 (dk_at dksX1_count_2 20 rfl rfl)
theorem dX1_count_75 : decode cX1_count 75 = .ok (.getfield 127, 3) := dk_180 0 127 (dk_at dksX1_count_3 0 rfl rfl)
theorem dX1_count_78 : decode cX1_count 78 = .ok (.invokevirtual 124, 3) := dk_182 0 124 (dk_at dksX1_count_3 3 rfl rfl)
theorem dX1_count_81 : decode cX1_count 81 = .ok (.ireturn, 1) := dk_172 (dk_at dksX1_count_3 6 rfl rfl)
theorem dX1_count_82 : decode cX1_count 82 = .ok (.iconst 0, 1) := dk_3 (dk_at dksX1_count_3 7 rfl rfl)
theorem dX1_count_83 : decode cX1_count 83 = .ok (.istore_n 2, 1) := dk_61 (dk_at dksX1_count_3 8 rfl rfl)
theorem dX1_count_84 : decode cX1_count 84 = .ok (.aload_n 0, 1) := dk_42 (dk_at dksX1_count_3 9 rfl rfl)
theorem dX1_count_85 : decode cX1_count 85 = .ok (.getfield 71, 3) := dk_180 0 71 (dk_at dksX1_count_3 10 rfl rfl)
theorem dX1_count_88 : decode cX1_count 88 = .ok (.getfield 130, 3) := dk_180 0 130 (dk_at dksX1_count_3 13 rfl rfl)
theorem dX1_count_91 : decode cX1_count 91 = .ok (.astore_n 3, 1) := dk_78 (dk_at dksX1_count_3 16 rfl rfl)
theorem dX1_count_92 : decode cX1_count 92 = .ok (.aload_n 3, 1) := dk_45 (dk_at dksX1_count_3 17 rfl rfl)
theorem dX1_count_93 : decode cX1_count 93 = .ok (.arraylength, 1) := dk_190 (dk_at dksX1_count_3 18 rfl rfl)
theorem dX1_count_94 : decode cX1_count 94 = .ok (.istore 4, 2) := dk_54 4 (dk_at dksX1_count_3 19 rfl rfl)
theorem dX1_count_96 : decode cX1_count 96 = .ok (.iconst 0, 1) := dk_3 (dk_at dksX1_count_3 21 rfl rfl)
theorem dX1_count_97 : decode cX1_count 97 = .ok (.istore 5, 2) := dk_54 5 (dk_at dksX1_count_3 22 rfl rfl)
theorem dX1_count_99 : decode cX1_count 99 = .ok (.iload 5, 2) := dk_21 5 (dk_at dksX1_count_4 0 rfl rfl)
theorem dX1_count_101 : decode cX1_count 101 = .ok (.iload 4, 2) := dk_21 4 (dk_at dksX1_count_4 2 rfl rfl)
theorem dX1_count_103 : decode cX1_count 103 = .ok (.if_icmp .ge 20, 3) := dk_162 0 20 (dk_at dksX1_count_4 4 rfl rfl)
theorem dX1_count_106 : decode cX1_count 106 = .ok (.aload_n 3, 1) := dk_45 (dk_at dksX1_count_4 7 rfl rfl)
theorem dX1_count_107 : decode cX1_count 107 = .ok (.iload 5, 2) := dk_21 5 (dk_at dksX1_count_4 8 rfl rfl)
theorem dX1_count_109 : decode cX1_count 109 = .ok (.iaload, 1) := dk_46 (dk_at dksX1_count_4 10 rfl rfl)
theorem dX1_count_110 : decode cX1_count 110 = .ok (.istore 6, 2) := dk_54 6 (dk_at dksX1_count_4 11 rfl rfl)
theorem dX1_count_112 : decode cX1_count 112 = .ok (.iload_n 2, 1) := dk_28 (dk_at dksX1_count_4 13 rfl rfl)
theorem dX1_count_113 : decode cX1_count 113 = .ok (.iload 6, 2) := dk_21 6 (dk_at dksX1_count_4 14 rfl rfl)
theorem dX1_count_115 : decode cX1_count 115 = .ok (.iadd, 1) := dk_96 (dk_at dksX1_count_4 16 rfl rfl)
theorem dX1_count_116 : decode cX1_count 116 = .ok (.istore_n 2, 1) := dk_61 (dk_at dksX1_count_4 17 rfl rfl)
theorem dX1_count_117 : decode cX1_count 117 = .ok (.iinc 5 1, 3) := dk_132 5 1 (dk_at dksX1_count_4 18 rfl rfl)
theorem dX1_count_120 : decode cX1_count 120 = .ok (.goto (-21), 3) := dk_167 255 235 (dk_at dksX1_count_4 21 rfl rfl)
theorem dX1_count_123 : decode cX1_count 123 = .ok (.iload_n 2, 1) := dk_28 (dk_at dksX1_count_5 0 rfl rfl)
theorem dX1_count_124 : decode cX1_count 124 = .ok (.ireturn, 1) := dk_172 (dk_at dksX1_count_5 1 rfl rfl)
theorem dX1_count_125 : decode cX1_count 125 = .ok (.aload_n 0, 1) := dk_42 (dk_at dksX1_count_5 2 rfl rfl)
theorem dX1_count_126 : decode cX1_count 126 = .ok (.getfield 71, 3) := dk_180 0 71 (dk_at dksX1_count_5 3 rfl rfl)
theorem dX1_count_129 : decode cX1_count 129 = .ok (.getfield 134, 3) := dk_180 0 134 (dk_at dksX1_count_5 6 rfl rfl)
theorem dX1_count_132 : decode cX1_count 132 = .ok (.invokevirtual 124, 3) := dk_182 0 124 (dk_at dksX1_count_5 9 rfl rfl)
theorem dX1_count_135 : decode cX1_count 135 = .ok (.ireturn, 1) := dk_172 (dk_at dksX1_count_5 12 rfl rfl)
theorem dX1_count_136 : decode cX1_count 136 = .ok (.aload_n 0, 1) := dk_42 (dk_at dksX1_count_5 13 rfl rfl)
theorem dX1_count_137 : decode cX1_count 137 = .ok (.getfield 71, 3) := dk_180 0 71 (dk_at dksX1_count_5 14 rfl rfl)
theorem dX1_count_140 : decode cX1_count 140 = .ok (.invokevirtual 137, 3) := dk_182 0 137 (dk_at dksX1_count_5 17 rfl rfl)
theorem dX1_count_143 : decode cX1_count 143 = .ok (.ireturn, 1) := dk_172 (dk_at dksX1_count_5 20 rfl rfl)
theorem dX1_count_144 : decode cX1_count 144 = .ok (.aload_n 0, 1) := dk_42 (dk_at dksX1_count_5 21 rfl rfl)
theorem dX1_count_145 : decode cX1_count 145 = .ok (.getfield 71, 3) := dk_180 0 71 (dk_at dksX1_count_6 0 rfl rfl)
theorem dX1_count_148 : decode cX1_count 148 = .ok (.invokevirtual 140, 3) := dk_182 0 140 (dk_at dksX1_count_6 3 rfl rfl)
theorem dX1_count_151 : decode cX1_count 151 = .ok (.ireturn, 1) := dk_172 (dk_at dksX1_count_6 6 rfl rfl)
theorem dX1_count_152 : decode cX1_count 152 = .ok (.aload_n 0, 1) := dk_42 (dk_at dksX1_count_6 7 rfl rfl)
theorem dX1_count_153 : decode cX1_count 153 = .ok (.getfield 71, 3) := dk_180 0 71 (dk_at dksX1_count_6 8 rfl rfl)
theorem dX1_count_156 : decode cX1_count 156 = .ok (.invokevirtual 143, 3) := dk_182 0 143 (dk_at dksX1_count_6 11 rfl rfl)
theorem dX1_count_159 : decode cX1_count 159 = .ok (.ireturn, 1) := dk_172 (dk_at dksX1_count_6 14 rfl rfl)
theorem dX1_count_160 : decode cX1_count 160 = .ok (.aload_n 0, 1) := dk_42 (dk_at dksX1_count_6 15 rfl rfl)
theorem dX1_count_161 : decode cX1_count 161 = .ok (.getfield 60, 3) := dk_180 0 60 (dk_at dksX1_count_6 16 rfl rfl)
theorem dX1_count_164 : decode cX1_count 164 = .ok (.getfield 78, 3) := dk_180 0 78 (dk_at dksX1_count_6 19 rfl rfl)
theorem dX1_count_167 : decode cX1_count 167 = .ok (.ireturn, 1) := dk_172 (dk_at dksX1_count_6 22 rfl rfl)
abbrev cX1_requireIndex : ByteArray := prog_1_method_3_code
def yX1_requireIndex : MethodName := ⟨RX1, "requireIndex", "(II)V"⟩
def dkwX1_requireIndex_0 : List UInt8 := [26, 155, 0, 8, 26, 27, 161, 0, 11, 187, 0, 10, 89, 183, 0, 12, 191, 177]
abbrev dktX1_requireIndex_0 : List UInt8 := dkwX1_requireIndex_0 ++ []
theorem dksX1_requireIndex_0 : cX1_requireIndex.data.toList.drop 0 = dktX1_requireIndex_0 := by decide +kernel
theorem dX1_requireIndex_0 : decode cX1_requireIndex 0 = .ok (.iload_n 0, 1) := dk_26 (dk_at dksX1_requireIndex_0 0 rfl rfl)
theorem dX1_requireIndex_1 : decode cX1_requireIndex 1 = .ok (.ifCond .lt 8, 3) := dk_155 0 8 (dk_at dksX1_requireIndex_0 1 rfl rfl)
theorem dX1_requireIndex_4 : decode cX1_requireIndex 4 = .ok (.iload_n 0, 1) := dk_26 (dk_at dksX1_requireIndex_0 4 rfl rfl)
theorem dX1_requireIndex_5 : decode cX1_requireIndex 5 = .ok (.iload_n 1, 1) := dk_27 (dk_at dksX1_requireIndex_0 5 rfl rfl)
theorem dX1_requireIndex_6 : decode cX1_requireIndex 6 = .ok (.if_icmp .lt 11, 3) := dk_161 0 11 (dk_at dksX1_requireIndex_0 6 rfl rfl)
theorem dX1_requireIndex_9 : decode cX1_requireIndex 9 = .ok (.new 10, 3) := dk_187 0 10 (dk_at dksX1_requireIndex_0 9 rfl rfl)
theorem dX1_requireIndex_12 : decode cX1_requireIndex 12 = .ok (.dup, 1) := dk_89 (dk_at dksX1_requireIndex_0 12 rfl rfl)
theorem dX1_requireIndex_13 : decode cX1_requireIndex 13 = .ok (.invokespecial 12, 3) := dk_183 0 12 (dk_at dksX1_requireIndex_0 13 rfl rfl)
theorem dX1_requireIndex_16 : decode cX1_requireIndex 16 = .ok (.athrow, 1) := dk_191 (dk_at dksX1_requireIndex_0 16 rfl rfl)
theorem dX1_requireIndex_17 : decode cX1_requireIndex 17 = .ok (.return_, 1) := dk_177 (dk_at dksX1_requireIndex_0 17 rfl rfl)
abbrev cX1_pointGet : ByteArray := prog_1_method_16_code
def yX1_pointGet : MethodName := ⟨RX1, "pointGet", "(II)I"⟩
def dkwX1_pointGet_5 : List UInt8 := [4, 167, 0, 4, 3, 96, 62, 132, 8, 1, 167, 255, 225, 167, 255, 185, 29, 172]
abbrev dktX1_pointGet_5 : List UInt8 := dkwX1_pointGet_5 ++ []
def dkwX1_pointGet_4 : List UInt8 := [3, 54, 8, 21, 8, 21, 7, 162, 0, 30, 25, 6, 21, 8, 46, 54, 9, 29, 21, 9, 27, 160, 0, 7]
abbrev dktX1_pointGet_4 : List UInt8 := dkwX1_pointGet_4 ++ dktX1_pointGet_5
def dkwX1_pointGet_3 : List UInt8 := [25, 4, 185, 0, 166, 1, 0, 192, 0, 170, 58, 5, 25, 5, 180, 0, 172, 58, 6, 25, 6, 190, 54, 7]
abbrev dktX1_pointGet_3 : List UInt8 := dkwX1_pointGet_3 ++ dktX1_pointGet_4
def dkwX1_pointGet_2 : List UInt8 := [62, 42, 180, 0, 71, 180, 0, 120, 182, 0, 156, 58, 4, 25, 4, 185, 0, 160, 1, 0, 153, 0, 67]
abbrev dktX1_pointGet_2 : List UInt8 := dkwX1_pointGet_2 ++ dktX1_pointGet_3
def dkwX1_pointGet_1 : List UInt8 := [180, 0, 71, 180, 0, 149, 27, 46, 172, 28, 6, 160, 0, 12, 42, 180, 0, 71, 27, 182, 0, 152, 172, 3]
abbrev dktX1_pointGet_1 : List UInt8 := dkwX1_pointGet_1 ++ dktX1_pointGet_2
def dkwX1_pointGet_0 : List UInt8 := [28, 5, 162, 0, 29, 28, 154, 0, 15, 42, 180, 0, 71, 180, 0, 146, 27, 46, 167, 0, 12, 42]
abbrev dktX1_pointGet_0 : List UInt8 := dkwX1_pointGet_0 ++ dktX1_pointGet_1
theorem dksX1_pointGet_0 : cX1_pointGet.data.toList.drop 0 = dktX1_pointGet_0 := by decide +kernel
theorem dksX1_pointGet_1 : cX1_pointGet.data.toList.drop 22 = dktX1_pointGet_1 := dk_seg dksX1_pointGet_0 22 rfl rfl
theorem dksX1_pointGet_2 : cX1_pointGet.data.toList.drop 46 = dktX1_pointGet_2 := dk_seg dksX1_pointGet_1 24 rfl rfl
theorem dksX1_pointGet_3 : cX1_pointGet.data.toList.drop 69 = dktX1_pointGet_3 := dk_seg dksX1_pointGet_2 23 rfl rfl
theorem dksX1_pointGet_4 : cX1_pointGet.data.toList.drop 93 = dktX1_pointGet_4 := dk_seg dksX1_pointGet_3 24 rfl rfl
theorem dksX1_pointGet_5 : cX1_pointGet.data.toList.drop 117 = dktX1_pointGet_5 := dk_seg dksX1_pointGet_4 24 rfl rfl
theorem dX1_pointGet_0 : decode cX1_pointGet 0 = .ok (.iload_n 2, 1) := dk_28 (dk_at dksX1_pointGet_0 0 rfl rfl)
theorem dX1_pointGet_1 : decode cX1_pointGet 1 = .ok (.iconst 2, 1) := dk_5 (dk_at dksX1_pointGet_0 1 rfl rfl)
theorem dX1_pointGet_2 : decode cX1_pointGet 2 = .ok (.if_icmp .ge 29, 3) := dk_162 0 29 (dk_at dksX1_pointGet_0 2 rfl rfl)
theorem dX1_pointGet_5 : decode cX1_pointGet 5 = .ok (.iload_n 2, 1) := dk_28 (dk_at dksX1_pointGet_0 5 rfl rfl)
theorem dX1_pointGet_6 : decode cX1_pointGet 6 = .ok (.ifCond .ne 15, 3) := dk_154 0 15 (dk_at dksX1_pointGet_0 6 rfl rfl)
theorem dX1_pointGet_9 : decode cX1_pointGet 9 = .ok (.aload_n 0, 1) := dk_42 (dk_at dksX1_pointGet_0 9 rfl rfl)
theorem dX1_pointGet_10 : decode cX1_pointGet 10 = .ok (.getfield 71, 3) := dk_180 0 71 (dk_at dksX1_pointGet_0 10 rfl rfl)
theorem dX1_pointGet_13 : decode cX1_pointGet 13 = .ok (.getfield 146, 3) := dk_180 0 146 (dk_at dksX1_pointGet_0 13 rfl rfl)
theorem dX1_pointGet_16 : decode cX1_pointGet 16 = .ok (.iload_n 1, 1) := dk_27 (dk_at dksX1_pointGet_0 16 rfl rfl)
theorem dX1_pointGet_17 : decode cX1_pointGet 17 = .ok (.iaload, 1) := dk_46 (dk_at dksX1_pointGet_0 17 rfl rfl)
theorem dX1_pointGet_18 : decode cX1_pointGet 18 = .ok (.goto 12, 3) := dk_167 0 12 (dk_at dksX1_pointGet_0 18 rfl rfl)
theorem dX1_pointGet_21 : decode cX1_pointGet 21 = .ok (.aload_n 0, 1) := dk_42 (dk_at dksX1_pointGet_0 21 rfl rfl)
theorem dX1_pointGet_22 : decode cX1_pointGet 22 = .ok (.getfield 71, 3) := dk_180 0 71 (dk_at dksX1_pointGet_1 0 rfl rfl)
theorem dX1_pointGet_25 : decode cX1_pointGet 25 = .ok (.getfield 149, 3) := dk_180 0 149 (dk_at dksX1_pointGet_1 3 rfl rfl)
theorem dX1_pointGet_28 : decode cX1_pointGet 28 = .ok (.iload_n 1, 1) := dk_27 (dk_at dksX1_pointGet_1 6 rfl rfl)
theorem dX1_pointGet_29 : decode cX1_pointGet 29 = .ok (.iaload, 1) := dk_46 (dk_at dksX1_pointGet_1 7 rfl rfl)
theorem dX1_pointGet_30 : decode cX1_pointGet 30 = .ok (.ireturn, 1) := dk_172 (dk_at dksX1_pointGet_1 8 rfl rfl)
theorem dX1_pointGet_31 : decode cX1_pointGet 31 = .ok (.iload_n 2, 1) := dk_28 (dk_at dksX1_pointGet_1 9 rfl rfl)
theorem dX1_pointGet_32 : decode cX1_pointGet 32 = .ok (.iconst 3, 1) := dk_6 (dk_at dksX1_pointGet_1 10 rfl rfl)
theorem dX1_pointGet_33 : decode cX1_pointGet 33 = .ok (.if_icmp .ne 12, 3) := dk_160 0 12 (dk_at dksX1_pointGet_1 11 rfl rfl)
theorem dX1_pointGet_36 : decode cX1_pointGet 36 = .ok (.aload_n 0, 1) := dk_42 (dk_at dksX1_pointGet_1 14 rfl rfl)
theorem dX1_pointGet_37 : decode cX1_pointGet 37 = .ok (.getfield 71, 3) := dk_180 0 71 (dk_at dksX1_pointGet_1 15 rfl rfl)
theorem dX1_pointGet_40 : decode cX1_pointGet 40 = .ok (.iload_n 1, 1) := dk_27 (dk_at dksX1_pointGet_1 18 rfl rfl)
theorem dX1_pointGet_41 : decode cX1_pointGet 41 = .ok (.invokevirtual 152, 3) := dk_182 0 152 (dk_at dksX1_pointGet_1 19 rfl rfl)
theorem dX1_pointGet_44 : decode cX1_pointGet 44 = .ok (.ireturn, 1) := dk_172 (dk_at dksX1_pointGet_1 22 rfl rfl)
theorem dX1_pointGet_45 : decode cX1_pointGet 45 = .ok (.iconst 0, 1) := dk_3 (dk_at dksX1_pointGet_1 23 rfl rfl)
theorem dX1_pointGet_46 : decode cX1_pointGet 46 = .ok (.istore_n 3, 1) := dk_62 (dk_at dksX1_pointGet_2 0 rfl rfl)
theorem dX1_pointGet_47 : decode cX1_pointGet 47 = .ok (.aload_n 0, 1) := dk_42 (dk_at dksX1_pointGet_2 1 rfl rfl)
theorem dX1_pointGet_48 : decode cX1_pointGet 48 = .ok (.getfield 71, 3) := dk_180 0 71 (dk_at dksX1_pointGet_2 2 rfl rfl)
theorem dX1_pointGet_51 : decode cX1_pointGet 51 = .ok (.getfield 120, 3) := dk_180 0 120 (dk_at dksX1_pointGet_2 5 rfl rfl)
theorem dX1_pointGet_54 : decode cX1_pointGet 54 = .ok (.invokevirtual 156, 3) := dk_182 0 156 (dk_at dksX1_pointGet_2 8 rfl rfl)
theorem dX1_pointGet_57 : decode cX1_pointGet 57 = .ok (.astore 4, 2) := dk_58 4 (dk_at dksX1_pointGet_2 11 rfl rfl)
theorem dX1_pointGet_59 : decode cX1_pointGet 59 = .ok (.aload 4, 2) := dk_25 4 (dk_at dksX1_pointGet_2 13 rfl rfl)
theorem dX1_pointGet_61 : decode cX1_pointGet 61 = .ok (.invokeinterface 160 1, 5) := by decide +kernel
theorem dX1_pointGet_66 : decode cX1_pointGet 66 = .ok (.ifCond .eq 67, 3) := dk_153 0 67 (dk_at dksX1_pointGet_2 20 rfl rfl)
theorem dX1_pointGet_69 : decode cX1_pointGet 69 = .ok (.aload 4, 2) := dk_25 4 (dk_at dksX1_pointGet_3 0 rfl rfl)
theorem dX1_pointGet_71 : decode cX1_pointGet 71 = .ok (.invokeinterface 166 1, 5) := by decide +kernel
theorem dX1_pointGet_76 : decode cX1_pointGet 76 = .ok (.checkcast 170, 3) := dk_192 0 170 (dk_at dksX1_pointGet_3 7 rfl rfl)
theorem dX1_pointGet_79 : decode cX1_pointGet 79 = .ok (.astore 5, 2) := dk_58 5 (dk_at dksX1_pointGet_3 10 rfl rfl)
theorem dX1_pointGet_81 : decode cX1_pointGet 81 = .ok (.aload 5, 2) := dk_25 5 (dk_at dksX1_pointGet_3 12 rfl rfl)
theorem dX1_pointGet_83 : decode cX1_pointGet 83 = .ok (.getfield 172, 3) := dk_180 0 172 (dk_at dksX1_pointGet_3 14 rfl rfl)
theorem dX1_pointGet_86 : decode cX1_pointGet 86 = .ok (.astore 6, 2) := dk_58 6 (dk_at dksX1_pointGet_3 17 rfl rfl)
theorem dX1_pointGet_88 : decode cX1_pointGet 88 = .ok (.aload 6, 2) := dk_25 6 (dk_at dksX1_pointGet_3 19 rfl rfl)
theorem dX1_pointGet_90 : decode cX1_pointGet 90 = .ok (.arraylength, 1) := dk_190 (dk_at dksX1_pointGet_3 21 rfl rfl)
theorem dX1_pointGet_91 : decode cX1_pointGet 91 = .ok (.istore 7, 2) := dk_54 7 (dk_at dksX1_pointGet_3 22 rfl rfl)
theorem dX1_pointGet_93 : decode cX1_pointGet 93 = .ok (.iconst 0, 1) := dk_3 (dk_at dksX1_pointGet_4 0 rfl rfl)
theorem dX1_pointGet_94 : decode cX1_pointGet 94 = .ok (.istore 8, 2) := dk_54 8 (dk_at dksX1_pointGet_4 1 rfl rfl)
theorem dX1_pointGet_96 : decode cX1_pointGet 96 = .ok (.iload 8, 2) := dk_21 8 (dk_at dksX1_pointGet_4 3 rfl rfl)
theorem dX1_pointGet_98 : decode cX1_pointGet 98 = .ok (.iload 7, 2) := dk_21 7 (dk_at dksX1_pointGet_4 5 rfl rfl)
theorem dX1_pointGet_100 : decode cX1_pointGet 100 = .ok (.if_icmp .ge 30, 3) := dk_162 0 30 (dk_at dksX1_pointGet_4 7 rfl rfl)
theorem dX1_pointGet_103 : decode cX1_pointGet 103 = .ok (.aload 6, 2) := dk_25 6 (dk_at dksX1_pointGet_4 10 rfl rfl)
theorem dX1_pointGet_105 : decode cX1_pointGet 105 = .ok (.iload 8, 2) := dk_21 8 (dk_at dksX1_pointGet_4 12 rfl rfl)
theorem dX1_pointGet_107 : decode cX1_pointGet 107 = .ok (.iaload, 1) := dk_46 (dk_at dksX1_pointGet_4 14 rfl rfl)
theorem dX1_pointGet_108 : decode cX1_pointGet 108 = .ok (.istore 9, 2) := dk_54 9 (dk_at dksX1_pointGet_4 15 rfl rfl)
theorem dX1_pointGet_110 : decode cX1_pointGet 110 = .ok (.iload_n 3, 1) := dk_29 (dk_at dksX1_pointGet_4 17 rfl rfl)
theorem dX1_pointGet_111 : decode cX1_pointGet 111 = .ok (.iload 9, 2) := dk_21 9 (dk_at dksX1_pointGet_4 18 rfl rfl)
theorem dX1_pointGet_113 : decode cX1_pointGet 113 = .ok (.iload_n 1, 1) := dk_27 (dk_at dksX1_pointGet_4 20 rfl rfl)
theorem dX1_pointGet_114 : decode cX1_pointGet 114 = .ok (.if_icmp .ne 7, 3) := dk_160 0 7 (dk_at dksX1_pointGet_4 21 rfl rfl)
theorem dX1_pointGet_117 : decode cX1_pointGet 117 = .ok (.iconst 1, 1) := dk_4 (dk_at dksX1_pointGet_5 0 rfl rfl)
theorem dX1_pointGet_118 : decode cX1_pointGet 118 = .ok (.goto 4, 3) := dk_167 0 4 (dk_at dksX1_pointGet_5 1 rfl rfl)
theorem dX1_pointGet_121 : decode cX1_pointGet 121 = .ok (.iconst 0, 1) := dk_3 (dk_at dksX1_pointGet_5 4 rfl rfl)
theorem dX1_pointGet_122 : decode cX1_pointGet 122 = .ok (.iadd, 1) := dk_96 (dk_at dksX1_pointGet_5 5 rfl rfl)
theorem dX1_pointGet_123 : decode cX1_pointGet 123 = .ok (.istore_n 3, 1) := dk_62 (dk_at dksX1_pointGet_5 6 rfl rfl)
theorem dX1_pointGet_124 : decode cX1_pointGet 124 = .ok (.iinc 8 1, 3) := dk_132 8 1 (dk_at dksX1_pointGet_5 7 rfl rfl)
theorem dX1_pointGet_127 : decode cX1_pointGet 127 = .ok (.goto (-31), 3) := dk_167 255 225 (dk_at dksX1_pointGet_5 10 rfl rfl)
theorem dX1_pointGet_130 : decode cX1_pointGet 130 = .ok (.goto (-71), 3) := dk_167 255 185 (dk_at dksX1_pointGet_5 13 rfl rfl)
theorem dX1_pointGet_133 : decode cX1_pointGet 133 = .ok (.iload_n 3, 1) := dk_29 (dk_at dksX1_pointGet_5 16 rfl rfl)
theorem dX1_pointGet_134 : decode cX1_pointGet 134 = .ok (.ireturn, 1) := dk_172 (dk_at dksX1_pointGet_5 17 rfl rfl)
abbrev cX1_shapeGet : ByteArray := prog_1_method_18_code
def yX1_shapeGet : MethodName := ⟨RX1, "shapeGet", "(LGridTable$Table$Shape;I)I"⟩
def dkwX1_shapeGet_3 : List UInt8 := [182, 0, 189, 172, 42, 182, 0, 193, 172, 42, 182, 0, 196, 153, 0, 7, 4, 167, 0, 4, 3, 172]
abbrev dktX1_shapeGet_3 : List UInt8 := dkwX1_shapeGet_3 ++ []
def dkwX1_shapeGet_2 : List UInt8 := [42, 180, 0, 172, 190, 172, 42, 182, 0, 178, 184, 0, 181, 172, 42, 182, 0, 178, 184, 0, 184, 172, 42, 42]
abbrev dktX1_shapeGet_2 : List UInt8 := dkwX1_shapeGet_2 ++ dktX1_shapeGet_3
def dkwX1_shapeGet_1 : List UInt8 := [170, 0, 0, 0, 0, 0, 68, 0, 0, 0, 0, 0, 0, 0, 4, 0, 0, 0, 35, 0, 0, 0, 41, 0, 0, 0, 49, 0, 0, 0, 57, 0, 0, 0, 63]
abbrev dktX1_shapeGet_1 : List UInt8 := dkwX1_shapeGet_1 ++ dktX1_shapeGet_2
def dkwX1_shapeGet_0 : List UInt8 := [27]
abbrev dktX1_shapeGet_0 : List UInt8 := dkwX1_shapeGet_0 ++ dktX1_shapeGet_1
theorem dksX1_shapeGet_0 : cX1_shapeGet.data.toList.drop 0 = dktX1_shapeGet_0 := by decide +kernel
theorem dksX1_shapeGet_1 : cX1_shapeGet.data.toList.drop 1 = dktX1_shapeGet_1 := dk_seg dksX1_shapeGet_0 1 rfl rfl
theorem dksX1_shapeGet_2 : cX1_shapeGet.data.toList.drop 36 = dktX1_shapeGet_2 := dk_seg dksX1_shapeGet_1 35 rfl rfl
theorem dksX1_shapeGet_3 : cX1_shapeGet.data.toList.drop 60 = dktX1_shapeGet_3 := dk_seg dksX1_shapeGet_2 24 rfl rfl
theorem dX1_shapeGet_0 : decode cX1_shapeGet 0 = .ok (.iload_n 1, 1) := dk_27 (dk_at dksX1_shapeGet_0 0 rfl rfl)
theorem dX1_shapeGet_1 : decode cX1_shapeGet 1 = .ok (.tableswitch 68 0 4 #[35, 41, 49, 57, 63], 35) := by decide +kernel
theorem dX1_shapeGet_36 : decode cX1_shapeGet 36 = .ok (.aload_n 0, 1) := dk_42 (dk_at dksX1_shapeGet_2 0 rfl rfl)
theorem dX1_shapeGet_37 : decode cX1_shapeGet 37 = .ok (.getfield 172, 3) := dk_180 0 172 (dk_at dksX1_shapeGet_2 1 rfl rfl)
theorem dX1_shapeGet_40 : decode cX1_shapeGet 40 = .ok (.arraylength, 1) := dk_190 (dk_at dksX1_shapeGet_2 4 rfl rfl)
theorem dX1_shapeGet_41 : decode cX1_shapeGet 41 = .ok (.ireturn, 1) := dk_172 (dk_at dksX1_shapeGet_2 5 rfl rfl)
theorem dX1_shapeGet_42 : decode cX1_shapeGet 42 = .ok (.aload_n 0, 1) := dk_42 (dk_at dksX1_shapeGet_2 6 rfl rfl)
theorem dX1_shapeGet_43 : decode cX1_shapeGet 43 = .ok (.invokevirtual 178, 3) := dk_182 0 178 (dk_at dksX1_shapeGet_2 7 rfl rfl)
theorem dX1_shapeGet_46 : decode cX1_shapeGet 46 = .ok (.invokestatic 181, 3) := dk_184 0 181 (dk_at dksX1_shapeGet_2 10 rfl rfl)
theorem dX1_shapeGet_49 : decode cX1_shapeGet 49 = .ok (.ireturn, 1) := dk_172 (dk_at dksX1_shapeGet_2 13 rfl rfl)
theorem dX1_shapeGet_50 : decode cX1_shapeGet 50 = .ok (.aload_n 0, 1) := dk_42 (dk_at dksX1_shapeGet_2 14 rfl rfl)
theorem dX1_shapeGet_51 : decode cX1_shapeGet 51 = .ok (.invokevirtual 178, 3) := dk_182 0 178 (dk_at dksX1_shapeGet_2 15 rfl rfl)
theorem dX1_shapeGet_54 : decode cX1_shapeGet 54 = .ok (.invokestatic 184, 3) := dk_184 0 184 (dk_at dksX1_shapeGet_2 18 rfl rfl)
theorem dX1_shapeGet_57 : decode cX1_shapeGet 57 = .ok (.ireturn, 1) := dk_172 (dk_at dksX1_shapeGet_2 21 rfl rfl)
theorem dX1_shapeGet_58 : decode cX1_shapeGet 58 = .ok (.aload_n 0, 1) := dk_42 (dk_at dksX1_shapeGet_2 22 rfl rfl)
theorem dX1_shapeGet_59 : decode cX1_shapeGet 59 = .ok (.aload_n 0, 1) := dk_42 (dk_at dksX1_shapeGet_2 23 rfl rfl)
theorem dX1_shapeGet_60 : decode cX1_shapeGet 60 = .ok (.invokevirtual 189, 3) := dk_182 0 189 (dk_at dksX1_shapeGet_3 0 rfl rfl)
theorem dX1_shapeGet_63 : decode cX1_shapeGet 63 = .ok (.ireturn, 1) := dk_172 (dk_at dksX1_shapeGet_3 3 rfl rfl)
theorem dX1_shapeGet_64 : decode cX1_shapeGet 64 = .ok (.aload_n 0, 1) := dk_42 (dk_at dksX1_shapeGet_3 4 rfl rfl)
theorem dX1_shapeGet_65 : decode cX1_shapeGet 65 = .ok (.invokevirtual 193, 3) := dk_182 0 193 (dk_at dksX1_shapeGet_3 5 rfl rfl)
theorem dX1_shapeGet_68 : decode cX1_shapeGet 68 = .ok (.ireturn, 1) := dk_172 (dk_at dksX1_shapeGet_3 8 rfl rfl)
theorem dX1_shapeGet_69 : decode cX1_shapeGet 69 = .ok (.aload_n 0, 1) := dk_42 (dk_at dksX1_shapeGet_3 9 rfl rfl)
theorem dX1_shapeGet_70 : decode cX1_shapeGet 70 = .ok (.invokevirtual 196, 3) := dk_182 0 196 (dk_at dksX1_shapeGet_3 10 rfl rfl)
theorem dX1_shapeGet_73 : decode cX1_shapeGet 73 = .ok (.ifCond .eq 7, 3) := dk_153 0 7 (dk_at dksX1_shapeGet_3 13 rfl rfl)
theorem dX1_shapeGet_76 : decode cX1_shapeGet 76 = .ok (.iconst 1, 1) := dk_4 (dk_at dksX1_shapeGet_3 16 rfl rfl)
theorem dX1_shapeGet_77 : decode cX1_shapeGet 77 = .ok (.goto 4, 3) := dk_167 0 4 (dk_at dksX1_shapeGet_3 17 rfl rfl)
theorem dX1_shapeGet_80 : decode cX1_shapeGet 80 = .ok (.iconst 0, 1) := dk_3 (dk_at dksX1_shapeGet_3 20 rfl rfl)
theorem dX1_shapeGet_81 : decode cX1_shapeGet 81 = .ok (.ireturn, 1) := dk_172 (dk_at dksX1_shapeGet_3 21 rfl rfl)
abbrev cX1_divisor : ByteArray := prog_1_method_9_code
def yX1_divisor : MethodName := ⟨RX1, "divisor", "(II)I"⟩
def dkwX1_divisor_0 : List UInt8 := [27, 154, 0, 7, 26, 167, 0, 10, 27, 26, 27, 112, 184, 0, 51, 172]
abbrev dktX1_divisor_0 : List UInt8 := dkwX1_divisor_0 ++ []
theorem dksX1_divisor_0 : cX1_divisor.data.toList.drop 0 = dktX1_divisor_0 := by decide +kernel
theorem dX1_divisor_0 : decode cX1_divisor 0 = .ok (.iload_n 1, 1) := dk_27 (dk_at dksX1_divisor_0 0 rfl rfl)
theorem dX1_divisor_1 : decode cX1_divisor 1 = .ok (.ifCond .ne 7, 3) := dk_154 0 7 (dk_at dksX1_divisor_0 1 rfl rfl)
theorem dX1_divisor_4 : decode cX1_divisor 4 = .ok (.iload_n 0, 1) := dk_26 (dk_at dksX1_divisor_0 4 rfl rfl)
theorem dX1_divisor_5 : decode cX1_divisor 5 = .ok (.goto 10, 3) := dk_167 0 10 (dk_at dksX1_divisor_0 5 rfl rfl)
theorem dX1_divisor_8 : decode cX1_divisor 8 = .ok (.iload_n 1, 1) := dk_27 (dk_at dksX1_divisor_0 8 rfl rfl)
theorem dX1_divisor_9 : decode cX1_divisor 9 = .ok (.iload_n 0, 1) := dk_26 (dk_at dksX1_divisor_0 9 rfl rfl)
theorem dX1_divisor_10 : decode cX1_divisor 10 = .ok (.iload_n 1, 1) := dk_27 (dk_at dksX1_divisor_0 10 rfl rfl)
theorem dX1_divisor_11 : decode cX1_divisor 11 = .ok (.irem, 1) := dk_112 (dk_at dksX1_divisor_0 11 rfl rfl)
theorem dX1_divisor_12 : decode cX1_divisor 12 = .ok (.invokestatic 51, 3) := dk_184 0 51 (dk_at dksX1_divisor_0 12 rfl rfl)
theorem dX1_divisor_15 : decode cX1_divisor 15 = .ok (.ireturn, 1) := dk_172 (dk_at dksX1_divisor_0 15 rfl rfl)
abbrev cX1_hullGet : ByteArray := prog_1_method_23_code
def yX1_hullGet : MethodName := ⟨RX1, "hullGet", "(LGridTable$Table$Shape;I)I"⟩
def dkwX1_hullGet_1 : List UInt8 := [182, 0, 212, 167, 0, 7, 42, 182, 0, 215, 172]
abbrev dktX1_hullGet_1 : List UInt8 := dkwX1_hullGet_1 ++ []
def dkwX1_hullGet_0 : List UInt8 := [27, 154, 0, 15, 42, 182, 0, 209, 185, 0, 19, 1, 0, 167, 0, 19, 27, 4, 160, 0, 10, 42]
abbrev dktX1_hullGet_0 : List UInt8 := dkwX1_hullGet_0 ++ dktX1_hullGet_1
theorem dksX1_hullGet_0 : cX1_hullGet.data.toList.drop 0 = dktX1_hullGet_0 := by decide +kernel
theorem dksX1_hullGet_1 : cX1_hullGet.data.toList.drop 22 = dktX1_hullGet_1 := dk_seg dksX1_hullGet_0 22 rfl rfl
theorem dX1_hullGet_0 : decode cX1_hullGet 0 = .ok (.iload_n 1, 1) := dk_27 (dk_at dksX1_hullGet_0 0 rfl rfl)
theorem dX1_hullGet_1 : decode cX1_hullGet 1 = .ok (.ifCond .ne 15, 3) := dk_154 0 15 (dk_at dksX1_hullGet_0 1 rfl rfl)
theorem dX1_hullGet_4 : decode cX1_hullGet 4 = .ok (.aload_n 0, 1) := dk_42 (dk_at dksX1_hullGet_0 4 rfl rfl)
theorem dX1_hullGet_5 : decode cX1_hullGet 5 = .ok (.invokevirtual 209, 3) := dk_182 0 209 (dk_at dksX1_hullGet_0 5 rfl rfl)
theorem dX1_hullGet_8 : decode cX1_hullGet 8 = .ok (.invokeinterface 19 1, 5) := by decide +kernel
theorem dX1_hullGet_13 : decode cX1_hullGet 13 = .ok (.goto 19, 3) := dk_167 0 19 (dk_at dksX1_hullGet_0 13 rfl rfl)
theorem dX1_hullGet_16 : decode cX1_hullGet 16 = .ok (.iload_n 1, 1) := dk_27 (dk_at dksX1_hullGet_0 16 rfl rfl)
theorem dX1_hullGet_17 : decode cX1_hullGet 17 = .ok (.iconst 1, 1) := dk_4 (dk_at dksX1_hullGet_0 17 rfl rfl)
theorem dX1_hullGet_18 : decode cX1_hullGet 18 = .ok (.if_icmp .ne 10, 3) := dk_160 0 10 (dk_at dksX1_hullGet_0 18 rfl rfl)
theorem dX1_hullGet_21 : decode cX1_hullGet 21 = .ok (.aload_n 0, 1) := dk_42 (dk_at dksX1_hullGet_0 21 rfl rfl)
theorem dX1_hullGet_22 : decode cX1_hullGet 22 = .ok (.invokevirtual 212, 3) := dk_182 0 212 (dk_at dksX1_hullGet_1 0 rfl rfl)
theorem dX1_hullGet_25 : decode cX1_hullGet 25 = .ok (.goto 7, 3) := dk_167 0 7 (dk_at dksX1_hullGet_1 3 rfl rfl)
theorem dX1_hullGet_28 : decode cX1_hullGet 28 = .ok (.aload_n 0, 1) := dk_42 (dk_at dksX1_hullGet_1 6 rfl rfl)
theorem dX1_hullGet_29 : decode cX1_hullGet 29 = .ok (.invokevirtual 215, 3) := dk_182 0 215 (dk_at dksX1_hullGet_1 7 rfl rfl)
theorem dX1_hullGet_32 : decode cX1_hullGet 32 = .ok (.ireturn, 1) := dk_172 (dk_at dksX1_hullGet_1 10 rfl rfl)
abbrev cX1_stepGet : ByteArray := prog_1_method_32_code
def yX1_stepGet : MethodName := ⟨RX1, "stepGet", "(II)I"⟩
def dkwX1_stepGet_4 : List UInt8 := [27, 46, 172]
abbrev dktX1_stepGet_4 : List UInt8 := dkwX1_stepGet_4 ++ []
def dkwX1_stepGet_3 : List UInt8 := [180, 0, 71, 185, 1, 22, 2, 0, 153, 0, 7, 4, 167, 0, 4, 3, 172, 42, 180, 0, 71, 180, 0, 130]
abbrev dktX1_stepGet_3 : List UInt8 := dkwX1_stepGet_3 ++ dktX1_stepGet_4
def dkwX1_stepGet_2 : List UInt8 := [45, 180, 1, 3, 182, 1, 7, 172, 45, 180, 1, 12, 172, 45, 180, 1, 15, 172, 45, 180, 1, 18, 42]
abbrev dktX1_stepGet_2 : List UInt8 := dkwX1_stepGet_2 ++ dktX1_stepGet_3
def dkwX1_stepGet_1 : List UInt8 := [170, 0, 0, 0, 0, 0, 0, 72, 0, 0, 0, 0, 0, 0, 0, 3, 0, 0, 0, 32, 0, 0, 0, 40, 0, 0, 0, 45, 0, 0, 0, 50]
abbrev dktX1_stepGet_1 : List UInt8 := dkwX1_stepGet_1 ++ dktX1_stepGet_2
def dkwX1_stepGet_0 : List UInt8 := [42, 180, 0, 71, 180, 0, 127, 27, 182, 1, 0, 192, 1, 1, 78, 28]
abbrev dktX1_stepGet_0 : List UInt8 := dkwX1_stepGet_0 ++ dktX1_stepGet_1
theorem dksX1_stepGet_0 : cX1_stepGet.data.toList.drop 0 = dktX1_stepGet_0 := by decide +kernel
theorem dksX1_stepGet_1 : cX1_stepGet.data.toList.drop 16 = dktX1_stepGet_1 := dk_seg dksX1_stepGet_0 16 rfl rfl
theorem dksX1_stepGet_2 : cX1_stepGet.data.toList.drop 48 = dktX1_stepGet_2 := dk_seg dksX1_stepGet_1 32 rfl rfl
theorem dksX1_stepGet_3 : cX1_stepGet.data.toList.drop 71 = dktX1_stepGet_3 := dk_seg dksX1_stepGet_2 23 rfl rfl
theorem dksX1_stepGet_4 : cX1_stepGet.data.toList.drop 95 = dktX1_stepGet_4 := dk_seg dksX1_stepGet_3 24 rfl rfl
theorem dX1_stepGet_0 : decode cX1_stepGet 0 = .ok (.aload_n 0, 1) := dk_42 (dk_at dksX1_stepGet_0 0 rfl rfl)
theorem dX1_stepGet_1 : decode cX1_stepGet 1 = .ok (.getfield 71, 3) := dk_180 0 71 (dk_at dksX1_stepGet_0 1 rfl rfl)
theorem dX1_stepGet_4 : decode cX1_stepGet 4 = .ok (.getfield 127, 3) := dk_180 0 127 (dk_at dksX1_stepGet_0 4 rfl rfl)
theorem dX1_stepGet_7 : decode cX1_stepGet 7 = .ok (.iload_n 1, 1) := dk_27 (dk_at dksX1_stepGet_0 7 rfl rfl)
theorem dX1_stepGet_8 : decode cX1_stepGet 8 = .ok (.invokevirtual 256, 3) := dk_182 1 0 (dk_at dksX1_stepGet_0 8 rfl rfl)
theorem dX1_stepGet_11 : decode cX1_stepGet 11 = .ok (.checkcast 257, 3) := dk_192 1 1 (dk_at dksX1_stepGet_0 11 rfl rfl)
theorem dX1_stepGet_14 : decode cX1_stepGet 14 = .ok (.astore_n 3, 1) := dk_78 (dk_at dksX1_stepGet_0 14 rfl rfl)
theorem dX1_stepGet_15 : decode cX1_stepGet 15 = .ok (.iload_n 2, 1) := dk_28 (dk_at dksX1_stepGet_0 15 rfl rfl)
theorem dX1_stepGet_16 : decode cX1_stepGet 16 = .ok (.tableswitch 72 0 3 #[32, 40, 45, 50], 32) := by decide +kernel
theorem dX1_stepGet_48 : decode cX1_stepGet 48 = .ok (.aload_n 3, 1) := dk_45 (dk_at dksX1_stepGet_2 0 rfl rfl)
theorem dX1_stepGet_49 : decode cX1_stepGet 49 = .ok (.getfield 259, 3) := dk_180 1 3 (dk_at dksX1_stepGet_2 1 rfl rfl)
theorem dX1_stepGet_52 : decode cX1_stepGet 52 = .ok (.invokevirtual 263, 3) := dk_182 1 7 (dk_at dksX1_stepGet_2 4 rfl rfl)
theorem dX1_stepGet_55 : decode cX1_stepGet 55 = .ok (.ireturn, 1) := dk_172 (dk_at dksX1_stepGet_2 7 rfl rfl)
theorem dX1_stepGet_56 : decode cX1_stepGet 56 = .ok (.aload_n 3, 1) := dk_45 (dk_at dksX1_stepGet_2 8 rfl rfl)
theorem dX1_stepGet_57 : decode cX1_stepGet 57 = .ok (.getfield 268, 3) := dk_180 1 12 (dk_at dksX1_stepGet_2 9 rfl rfl)
theorem dX1_stepGet_60 : decode cX1_stepGet 60 = .ok (.ireturn, 1) := dk_172 (dk_at dksX1_stepGet_2 12 rfl rfl)
theorem dX1_stepGet_61 : decode cX1_stepGet 61 = .ok (.aload_n 3, 1) := dk_45 (dk_at dksX1_stepGet_2 13 rfl rfl)
theorem dX1_stepGet_62 : decode cX1_stepGet 62 = .ok (.getfield 271, 3) := dk_180 1 15 (dk_at dksX1_stepGet_2 14 rfl rfl)
theorem dX1_stepGet_65 : decode cX1_stepGet 65 = .ok (.ireturn, 1) := dk_172 (dk_at dksX1_stepGet_2 17 rfl rfl)
theorem dX1_stepGet_66 : decode cX1_stepGet 66 = .ok (.aload_n 3, 1) := dk_45 (dk_at dksX1_stepGet_2 18 rfl rfl)
theorem dX1_stepGet_67 : decode cX1_stepGet 67 = .ok (.getfield 274, 3) := dk_180 1 18 (dk_at dksX1_stepGet_2 19 rfl rfl)
theorem dX1_stepGet_70 : decode cX1_stepGet 70 = .ok (.aload_n 0, 1) := dk_42 (dk_at dksX1_stepGet_2 22 rfl rfl)
theorem dX1_stepGet_71 : decode cX1_stepGet 71 = .ok (.getfield 71, 3) := dk_180 0 71 (dk_at dksX1_stepGet_3 0 rfl rfl)
theorem dX1_stepGet_74 : decode cX1_stepGet 74 = .ok (.invokeinterface 278 2, 5) := by decide +kernel
theorem dX1_stepGet_79 : decode cX1_stepGet 79 = .ok (.ifCond .eq 7, 3) := dk_153 0 7 (dk_at dksX1_stepGet_3 8 rfl rfl)
theorem dX1_stepGet_82 : decode cX1_stepGet 82 = .ok (.iconst 1, 1) := dk_4 (dk_at dksX1_stepGet_3 11 rfl rfl)
theorem dX1_stepGet_83 : decode cX1_stepGet 83 = .ok (.goto 4, 3) := dk_167 0 4 (dk_at dksX1_stepGet_3 12 rfl rfl)
theorem dX1_stepGet_86 : decode cX1_stepGet 86 = .ok (.iconst 0, 1) := dk_3 (dk_at dksX1_stepGet_3 15 rfl rfl)
theorem dX1_stepGet_87 : decode cX1_stepGet 87 = .ok (.ireturn, 1) := dk_172 (dk_at dksX1_stepGet_3 16 rfl rfl)
theorem dX1_stepGet_88 : decode cX1_stepGet 88 = .ok (.aload_n 0, 1) := dk_42 (dk_at dksX1_stepGet_3 17 rfl rfl)
theorem dX1_stepGet_89 : decode cX1_stepGet 89 = .ok (.getfield 71, 3) := dk_180 0 71 (dk_at dksX1_stepGet_3 18 rfl rfl)
theorem dX1_stepGet_92 : decode cX1_stepGet 92 = .ok (.getfield 130, 3) := dk_180 0 130 (dk_at dksX1_stepGet_3 21 rfl rfl)
theorem dX1_stepGet_95 : decode cX1_stepGet 95 = .ok (.iload_n 1, 1) := dk_27 (dk_at dksX1_stepGet_4 0 rfl rfl)
theorem dX1_stepGet_96 : decode cX1_stepGet 96 = .ok (.iaload, 1) := dk_46 (dk_at dksX1_stepGet_4 1 rfl rfl)
theorem dX1_stepGet_97 : decode cX1_stepGet 97 = .ok (.ireturn, 1) := dk_172 (dk_at dksX1_stepGet_4 2 rfl rfl)
abbrev cX1_feed : ByteArray := prog_1_method_11_code
def yX1_feed : MethodName := ⟨RX1, "feed", "(IIIII)I"⟩
def dkwX1_feed_3 : List UInt8 := [180, 0, 78, 172]
abbrev dktX1_feed_3 : List UInt8 := dkwX1_feed_3 ++ []
def dkwX1_feed_2 : List UInt8 := [42, 180, 0, 60, 21, 4, 182, 0, 83, 42, 180, 0, 60, 21, 5, 182, 0, 83, 42, 180, 0, 60]
abbrev dktX1_feed_2 : List UInt8 := dkwX1_feed_2 ++ dktX1_feed_3
def dkwX1_feed_1 : List UInt8 := [42, 180, 0, 60, 27, 182, 0, 83, 42, 180, 0, 60, 28, 182, 0, 83, 42, 180, 0, 60, 29, 182, 0, 83]
abbrev dktX1_feed_1 : List UInt8 := dkwX1_feed_1 ++ dktX1_feed_2
def dkwX1_feed_0 : List UInt8 := [42, 180, 0, 60, 180, 0, 78, 16, 20, 96, 17, 7, 208, 163, 0, 7, 4, 167, 0, 4, 3, 184, 0, 80]
abbrev dktX1_feed_0 : List UInt8 := dkwX1_feed_0 ++ dktX1_feed_1
theorem dksX1_feed_0 : cX1_feed.data.toList.drop 0 = dktX1_feed_0 := by decide +kernel
theorem dksX1_feed_1 : cX1_feed.data.toList.drop 24 = dktX1_feed_1 := dk_seg dksX1_feed_0 24 rfl rfl
theorem dksX1_feed_2 : cX1_feed.data.toList.drop 48 = dktX1_feed_2 := dk_seg dksX1_feed_1 24 rfl rfl
theorem dksX1_feed_3 : cX1_feed.data.toList.drop 70 = dktX1_feed_3 := dk_seg dksX1_feed_2 22 rfl rfl
theorem dX1_feed_0 : decode cX1_feed 0 = .ok (.aload_n 0, 1) := dk_42 (dk_at dksX1_feed_0 0 rfl rfl)
theorem dX1_feed_1 : decode cX1_feed 1 = .ok (.getfield 60, 3) := dk_180 0 60 (dk_at dksX1_feed_0 1 rfl rfl)
theorem dX1_feed_4 : decode cX1_feed 4 = .ok (.getfield 78, 3) := dk_180 0 78 (dk_at dksX1_feed_0 4 rfl rfl)
theorem dX1_feed_7 : decode cX1_feed 7 = .ok (.bipush 20, 2) := dk_16 20 (dk_at dksX1_feed_0 7 rfl rfl)
theorem dX1_feed_9 : decode cX1_feed 9 = .ok (.iadd, 1) := dk_96 (dk_at dksX1_feed_0 9 rfl rfl)
theorem dX1_feed_10 : decode cX1_feed 10 = .ok (.sipush 2000, 3) := dk_17 7 208 (dk_at dksX1_feed_0 10 rfl rfl)
theorem dX1_feed_13 : decode cX1_feed 13 = .ok (.if_icmp .gt 7, 3) := dk_163 0 7 (dk_at dksX1_feed_0 13 rfl rfl)
theorem dX1_feed_16 : decode cX1_feed 16 = .ok (.iconst 1, 1) := dk_4 (dk_at dksX1_feed_0 16 rfl rfl)
theorem dX1_feed_17 : decode cX1_feed 17 = .ok (.goto 4, 3) := dk_167 0 4 (dk_at dksX1_feed_0 17 rfl rfl)
theorem dX1_feed_20 : decode cX1_feed 20 = .ok (.iconst 0, 1) := dk_3 (dk_at dksX1_feed_0 20 rfl rfl)
theorem dX1_feed_21 : decode cX1_feed 21 = .ok (.invokestatic 80, 3) := dk_184 0 80 (dk_at dksX1_feed_0 21 rfl rfl)
theorem dX1_feed_24 : decode cX1_feed 24 = .ok (.aload_n 0, 1) := dk_42 (dk_at dksX1_feed_1 0 rfl rfl)
theorem dX1_feed_25 : decode cX1_feed 25 = .ok (.getfield 60, 3) := dk_180 0 60 (dk_at dksX1_feed_1 1 rfl rfl)
theorem dX1_feed_28 : decode cX1_feed 28 = .ok (.iload_n 1, 1) := dk_27 (dk_at dksX1_feed_1 4 rfl rfl)
theorem dX1_feed_29 : decode cX1_feed 29 = .ok (.invokevirtual 83, 3) := dk_182 0 83 (dk_at dksX1_feed_1 5 rfl rfl)
theorem dX1_feed_32 : decode cX1_feed 32 = .ok (.aload_n 0, 1) := dk_42 (dk_at dksX1_feed_1 8 rfl rfl)
theorem dX1_feed_33 : decode cX1_feed 33 = .ok (.getfield 60, 3) := dk_180 0 60 (dk_at dksX1_feed_1 9 rfl rfl)
theorem dX1_feed_36 : decode cX1_feed 36 = .ok (.iload_n 2, 1) := dk_28 (dk_at dksX1_feed_1 12 rfl rfl)
theorem dX1_feed_37 : decode cX1_feed 37 = .ok (.invokevirtual 83, 3) := dk_182 0 83 (dk_at dksX1_feed_1 13 rfl rfl)
theorem dX1_feed_40 : decode cX1_feed 40 = .ok (.aload_n 0, 1) := dk_42 (dk_at dksX1_feed_1 16 rfl rfl)
theorem dX1_feed_41 : decode cX1_feed 41 = .ok (.getfield 60, 3) := dk_180 0 60 (dk_at dksX1_feed_1 17 rfl rfl)
theorem dX1_feed_44 : decode cX1_feed 44 = .ok (.iload_n 3, 1) := dk_29 (dk_at dksX1_feed_1 20 rfl rfl)
theorem dX1_feed_45 : decode cX1_feed 45 = .ok (.invokevirtual 83, 3) := dk_182 0 83 (dk_at dksX1_feed_1 21 rfl rfl)
theorem dX1_feed_48 : decode cX1_feed 48 = .ok (.aload_n 0, 1) := dk_42 (dk_at dksX1_feed_2 0 rfl rfl)
theorem dX1_feed_49 : decode cX1_feed 49 = .ok (.getfield 60, 3) := dk_180 0 60 (dk_at dksX1_feed_2 1 rfl rfl)
theorem dX1_feed_52 : decode cX1_feed 52 = .ok (.iload 4, 2) := dk_21 4 (dk_at dksX1_feed_2 4 rfl rfl)
theorem dX1_feed_54 : decode cX1_feed 54 = .ok (.invokevirtual 83, 3) := dk_182 0 83 (dk_at dksX1_feed_2 6 rfl rfl)
theorem dX1_feed_57 : decode cX1_feed 57 = .ok (.aload_n 0, 1) := dk_42 (dk_at dksX1_feed_2 9 rfl rfl)
theorem dX1_feed_58 : decode cX1_feed 58 = .ok (.getfield 60, 3) := dk_180 0 60 (dk_at dksX1_feed_2 10 rfl rfl)
theorem dX1_feed_61 : decode cX1_feed 61 = .ok (.iload 5, 2) := dk_21 5 (dk_at dksX1_feed_2 13 rfl rfl)
theorem dX1_feed_63 : decode cX1_feed 63 = .ok (.invokevirtual 83, 3) := dk_182 0 83 (dk_at dksX1_feed_2 15 rfl rfl)
theorem dX1_feed_66 : decode cX1_feed 66 = .ok (.aload_n 0, 1) := dk_42 (dk_at dksX1_feed_2 18 rfl rfl)
theorem dX1_feed_67 : decode cX1_feed 67 = .ok (.getfield 60, 3) := dk_180 0 60 (dk_at dksX1_feed_2 19 rfl rfl)
theorem dX1_feed_70 : decode cX1_feed 70 = .ok (.getfield 78, 3) := dk_180 0 78 (dk_at dksX1_feed_3 0 rfl rfl)
theorem dX1_feed_73 : decode cX1_feed 73 = .ok (.ireturn, 1) := dk_172 (dk_at dksX1_feed_3 3 rfl rfl)
abbrev cX1_requireState : ByteArray := prog_1_method_2_code
def yX1_requireState : MethodName := ⟨RX1, "requireState", "(Z)V"⟩
def dkwX1_requireState_0 : List UInt8 := [26, 154, 0, 11, 187, 0, 7, 89, 183, 0, 9, 191, 177]
abbrev dktX1_requireState_0 : List UInt8 := dkwX1_requireState_0 ++ []
theorem dksX1_requireState_0 : cX1_requireState.data.toList.drop 0 = dktX1_requireState_0 := by decide +kernel
theorem dX1_requireState_0 : decode cX1_requireState 0 = .ok (.iload_n 0, 1) := dk_26 (dk_at dksX1_requireState_0 0 rfl rfl)
theorem dX1_requireState_1 : decode cX1_requireState 1 = .ok (.ifCond .ne 11, 3) := dk_154 0 11 (dk_at dksX1_requireState_0 1 rfl rfl)
theorem dX1_requireState_4 : decode cX1_requireState 4 = .ok (.new 7, 3) := dk_187 0 7 (dk_at dksX1_requireState_0 4 rfl rfl)
theorem dX1_requireState_7 : decode cX1_requireState 7 = .ok (.dup, 1) := dk_89 (dk_at dksX1_requireState_0 7 rfl rfl)
theorem dX1_requireState_8 : decode cX1_requireState 8 = .ok (.invokespecial 9, 3) := dk_183 0 9 (dk_at dksX1_requireState_0 8 rfl rfl)
theorem dX1_requireState_11 : decode cX1_requireState 11 = .ok (.athrow, 1) := dk_191 (dk_at dksX1_requireState_0 11 rfl rfl)
theorem dX1_requireState_12 : decode cX1_requireState 12 = .ok (.return_, 1) := dk_177 (dk_at dksX1_requireState_0 12 rfl rfl)
abbrev cX1_trim : ByteArray := prog_1_method_12_code
def yX1_trim : MethodName := ⟨RX1, "trim", "(I)I"⟩
def dkwX1_trim_0 : List UInt8 := [3, 42, 180, 0, 60, 180, 0, 78, 27, 184, 0, 87, 42, 180, 0, 60, 27, 181, 0, 78, 27, 172]
abbrev dktX1_trim_0 : List UInt8 := dkwX1_trim_0 ++ []
theorem dksX1_trim_0 : cX1_trim.data.toList.drop 0 = dktX1_trim_0 := by decide +kernel
theorem dX1_trim_0 : decode cX1_trim 0 = .ok (.iconst 0, 1) := dk_3 (dk_at dksX1_trim_0 0 rfl rfl)
theorem dX1_trim_1 : decode cX1_trim 1 = .ok (.aload_n 0, 1) := dk_42 (dk_at dksX1_trim_0 1 rfl rfl)
theorem dX1_trim_2 : decode cX1_trim 2 = .ok (.getfield 60, 3) := dk_180 0 60 (dk_at dksX1_trim_0 2 rfl rfl)
theorem dX1_trim_5 : decode cX1_trim 5 = .ok (.getfield 78, 3) := dk_180 0 78 (dk_at dksX1_trim_0 5 rfl rfl)
theorem dX1_trim_8 : decode cX1_trim 8 = .ok (.iload_n 1, 1) := dk_27 (dk_at dksX1_trim_0 8 rfl rfl)
theorem dX1_trim_9 : decode cX1_trim 9 = .ok (.invokestatic 87, 3) := dk_184 0 87 (dk_at dksX1_trim_0 9 rfl rfl)
theorem dX1_trim_12 : decode cX1_trim 12 = .ok (.aload_n 0, 1) := dk_42 (dk_at dksX1_trim_0 12 rfl rfl)
theorem dX1_trim_13 : decode cX1_trim 13 = .ok (.getfield 60, 3) := dk_180 0 60 (dk_at dksX1_trim_0 13 rfl rfl)
theorem dX1_trim_16 : decode cX1_trim 16 = .ok (.iload_n 1, 1) := dk_27 (dk_at dksX1_trim_0 16 rfl rfl)
theorem dX1_trim_17 : decode cX1_trim 17 = .ok (.putfield 78, 3) := dk_181 0 78 (dk_at dksX1_trim_0 17 rfl rfl)
theorem dX1_trim_20 : decode cX1_trim 20 = .ok (.iload_n 1, 1) := dk_27 (dk_at dksX1_trim_0 20 rfl rfl)
theorem dX1_trim_21 : decode cX1_trim 21 = .ok (.ireturn, 1) := dk_172 (dk_at dksX1_trim_0 21 rfl rfl)
abbrev cX1_requireFrom : ByteArray := prog_1_method_4_code
def yX1_requireFrom : MethodName := ⟨RX1, "requireFrom", "(III)V"⟩
def dkwX1_requireFrom_0 : List UInt8 := [28, 26, 161, 0, 12, 28, 27, 163, 0, 7, 4, 167, 0, 4, 3, 184, 0, 13, 177]
abbrev dktX1_requireFrom_0 : List UInt8 := dkwX1_requireFrom_0 ++ []
theorem dksX1_requireFrom_0 : cX1_requireFrom.data.toList.drop 0 = dktX1_requireFrom_0 := by decide +kernel
theorem dX1_requireFrom_0 : decode cX1_requireFrom 0 = .ok (.iload_n 2, 1) := dk_28 (dk_at dksX1_requireFrom_0 0 rfl rfl)
theorem dX1_requireFrom_1 : decode cX1_requireFrom 1 = .ok (.iload_n 0, 1) := dk_26 (dk_at dksX1_requireFrom_0 1 rfl rfl)
theorem dX1_requireFrom_2 : decode cX1_requireFrom 2 = .ok (.if_icmp .lt 12, 3) := dk_161 0 12 (dk_at dksX1_requireFrom_0 2 rfl rfl)
theorem dX1_requireFrom_5 : decode cX1_requireFrom 5 = .ok (.iload_n 2, 1) := dk_28 (dk_at dksX1_requireFrom_0 5 rfl rfl)
theorem dX1_requireFrom_6 : decode cX1_requireFrom 6 = .ok (.iload_n 1, 1) := dk_27 (dk_at dksX1_requireFrom_0 6 rfl rfl)
theorem dX1_requireFrom_7 : decode cX1_requireFrom 7 = .ok (.if_icmp .gt 7, 3) := dk_163 0 7 (dk_at dksX1_requireFrom_0 7 rfl rfl)
theorem dX1_requireFrom_10 : decode cX1_requireFrom 10 = .ok (.iconst 1, 1) := dk_4 (dk_at dksX1_requireFrom_0 10 rfl rfl)
theorem dX1_requireFrom_11 : decode cX1_requireFrom 11 = .ok (.goto 4, 3) := dk_167 0 4 (dk_at dksX1_requireFrom_0 11 rfl rfl)
theorem dX1_requireFrom_14 : decode cX1_requireFrom 14 = .ok (.iconst 0, 1) := dk_3 (dk_at dksX1_requireFrom_0 14 rfl rfl)
theorem dX1_requireFrom_15 : decode cX1_requireFrom 15 = .ok (.invokestatic 13, 3) := dk_184 0 13 (dk_at dksX1_requireFrom_0 15 rfl rfl)
theorem dX1_requireFrom_18 : decode cX1_requireFrom 18 = .ok (.return_, 1) := dk_177 (dk_at dksX1_requireFrom_0 18 rfl rfl)
abbrev cX1_require : ByteArray := prog_1_method_1_code
def yX1_require : MethodName := ⟨RX1, "require", "(Z)V"⟩
def dkwX1_require_0 : List UInt8 := [26, 154, 0, 11, 187, 0, 1, 89, 183, 0, 3, 191, 177]
abbrev dktX1_require_0 : List UInt8 := dkwX1_require_0 ++ []
theorem dksX1_require_0 : cX1_require.data.toList.drop 0 = dktX1_require_0 := by decide +kernel
theorem dX1_require_0 : decode cX1_require 0 = .ok (.iload_n 0, 1) := dk_26 (dk_at dksX1_require_0 0 rfl rfl)
theorem dX1_require_1 : decode cX1_require 1 = .ok (.ifCond .ne 11, 3) := dk_154 0 11 (dk_at dksX1_require_0 1 rfl rfl)
theorem dX1_require_4 : decode cX1_require 4 = .ok (.new 1, 3) := dk_187 0 1 (dk_at dksX1_require_0 4 rfl rfl)
theorem dX1_require_7 : decode cX1_require 7 = .ok (.dup, 1) := dk_89 (dk_at dksX1_require_0 7 rfl rfl)
theorem dX1_require_8 : decode cX1_require 8 = .ok (.invokespecial 3, 3) := dk_183 0 3 (dk_at dksX1_require_0 8 rfl rfl)
theorem dX1_require_11 : decode cX1_require 11 = .ok (.athrow, 1) := dk_191 (dk_at dksX1_require_0 11 rfl rfl)
theorem dX1_require_12 : decode cX1_require 12 = .ok (.return_, 1) := dk_177 (dk_at dksX1_require_0 12 rfl rfl)
abbrev cX1_point : ByteArray := prog_1_method_17_code
def yX1_point : MethodName := ⟨RX1, "point", "(II)I"⟩
def dkwX1_point_0 : List UInt8 := [27, 42, 180, 0, 71, 180, 0, 117, 184, 0, 25, 28, 7, 184, 0, 25, 42, 27, 28, 182, 0, 175, 172]
abbrev dktX1_point_0 : List UInt8 := dkwX1_point_0 ++ []
theorem dksX1_point_0 : cX1_point.data.toList.drop 0 = dktX1_point_0 := by decide +kernel
theorem dX1_point_0 : decode cX1_point 0 = .ok (.iload_n 1, 1) := dk_27 (dk_at dksX1_point_0 0 rfl rfl)
theorem dX1_point_1 : decode cX1_point 1 = .ok (.aload_n 0, 1) := dk_42 (dk_at dksX1_point_0 1 rfl rfl)
theorem dX1_point_2 : decode cX1_point 2 = .ok (.getfield 71, 3) := dk_180 0 71 (dk_at dksX1_point_0 2 rfl rfl)
theorem dX1_point_5 : decode cX1_point 5 = .ok (.getfield 117, 3) := dk_180 0 117 (dk_at dksX1_point_0 5 rfl rfl)
theorem dX1_point_8 : decode cX1_point 8 = .ok (.invokestatic 25, 3) := dk_184 0 25 (dk_at dksX1_point_0 8 rfl rfl)
theorem dX1_point_11 : decode cX1_point 11 = .ok (.iload_n 2, 1) := dk_28 (dk_at dksX1_point_0 11 rfl rfl)
theorem dX1_point_12 : decode cX1_point 12 = .ok (.iconst 4, 1) := dk_7 (dk_at dksX1_point_0 12 rfl rfl)
theorem dX1_point_13 : decode cX1_point 13 = .ok (.invokestatic 25, 3) := dk_184 0 25 (dk_at dksX1_point_0 13 rfl rfl)
theorem dX1_point_16 : decode cX1_point 16 = .ok (.aload_n 0, 1) := dk_42 (dk_at dksX1_point_0 16 rfl rfl)
theorem dX1_point_17 : decode cX1_point 17 = .ok (.iload_n 1, 1) := dk_27 (dk_at dksX1_point_0 17 rfl rfl)
theorem dX1_point_18 : decode cX1_point 18 = .ok (.iload_n 2, 1) := dk_28 (dk_at dksX1_point_0 18 rfl rfl)
theorem dX1_point_19 : decode cX1_point 19 = .ok (.invokevirtual 175, 3) := dk_182 0 175 (dk_at dksX1_point_0 19 rfl rfl)
theorem dX1_point_22 : decode cX1_point 22 = .ok (.ireturn, 1) := dk_172 (dk_at dksX1_point_0 22 rfl rfl)
abbrev cX1_shape : ByteArray := prog_1_method_19_code
def yX1_shape : MethodName := ⟨RX1, "shape", "(II)I"⟩
def dkwX1_shape_1 : List UInt8 := [184, 0, 202, 172]
abbrev dktX1_shape_1 : List UInt8 := dkwX1_shape_1 ++ []
def dkwX1_shape_0 : List UInt8 := [42, 180, 0, 71, 180, 0, 120, 27, 184, 0, 199, 192, 0, 170, 78, 28, 16, 6, 184, 0, 25, 45, 28]
abbrev dktX1_shape_0 : List UInt8 := dkwX1_shape_0 ++ dktX1_shape_1
theorem dksX1_shape_0 : cX1_shape.data.toList.drop 0 = dktX1_shape_0 := by decide +kernel
theorem dksX1_shape_1 : cX1_shape.data.toList.drop 23 = dktX1_shape_1 := dk_seg dksX1_shape_0 23 rfl rfl
theorem dX1_shape_0 : decode cX1_shape 0 = .ok (.aload_n 0, 1) := dk_42 (dk_at dksX1_shape_0 0 rfl rfl)
theorem dX1_shape_1 : decode cX1_shape 1 = .ok (.getfield 71, 3) := dk_180 0 71 (dk_at dksX1_shape_0 1 rfl rfl)
theorem dX1_shape_4 : decode cX1_shape 4 = .ok (.getfield 120, 3) := dk_180 0 120 (dk_at dksX1_shape_0 4 rfl rfl)
theorem dX1_shape_7 : decode cX1_shape 7 = .ok (.iload_n 1, 1) := dk_27 (dk_at dksX1_shape_0 7 rfl rfl)
theorem dX1_shape_8 : decode cX1_shape 8 = .ok (.invokestatic 199, 3) := dk_184 0 199 (dk_at dksX1_shape_0 8 rfl rfl)
theorem dX1_shape_11 : decode cX1_shape 11 = .ok (.checkcast 170, 3) := dk_192 0 170 (dk_at dksX1_shape_0 11 rfl rfl)
theorem dX1_shape_14 : decode cX1_shape 14 = .ok (.astore_n 3, 1) := dk_78 (dk_at dksX1_shape_0 14 rfl rfl)
theorem dX1_shape_15 : decode cX1_shape 15 = .ok (.iload_n 2, 1) := dk_28 (dk_at dksX1_shape_0 15 rfl rfl)
theorem dX1_shape_16 : decode cX1_shape 16 = .ok (.bipush 6, 2) := dk_16 6 (dk_at dksX1_shape_0 16 rfl rfl)
theorem dX1_shape_18 : decode cX1_shape 18 = .ok (.invokestatic 25, 3) := dk_184 0 25 (dk_at dksX1_shape_0 18 rfl rfl)
theorem dX1_shape_21 : decode cX1_shape 21 = .ok (.aload_n 3, 1) := dk_45 (dk_at dksX1_shape_0 21 rfl rfl)
theorem dX1_shape_22 : decode cX1_shape 22 = .ok (.iload_n 2, 1) := dk_28 (dk_at dksX1_shape_0 22 rfl rfl)
theorem dX1_shape_23 : decode cX1_shape 23 = .ok (.invokestatic 202, 3) := dk_184 0 202 (dk_at dksX1_shape_1 0 rfl rfl)
theorem dX1_shape_26 : decode cX1_shape 26 = .ok (.ireturn, 1) := dk_172 (dk_at dksX1_shape_1 3 rfl rfl)
abbrev cX1_at : ByteArray := prog_1_method_5_code
def yX1_at : MethodName := ⟨RX1, "at", "(Ljava/util/List;I)Ljava/lang/Object;"⟩
def dkwX1_at_0 : List UInt8 := [27, 42, 185, 0, 19, 1, 0, 184, 0, 25, 42, 27, 185, 0, 29, 2, 0, 176]
abbrev dktX1_at_0 : List UInt8 := dkwX1_at_0 ++ []
theorem dksX1_at_0 : cX1_at.data.toList.drop 0 = dktX1_at_0 := by decide +kernel
theorem dX1_at_0 : decode cX1_at 0 = .ok (.iload_n 1, 1) := dk_27 (dk_at dksX1_at_0 0 rfl rfl)
theorem dX1_at_1 : decode cX1_at 1 = .ok (.aload_n 0, 1) := dk_42 (dk_at dksX1_at_0 1 rfl rfl)
theorem dX1_at_2 : decode cX1_at 2 = .ok (.invokeinterface 19 1, 5) := by decide +kernel
theorem dX1_at_7 : decode cX1_at 7 = .ok (.invokestatic 25, 3) := dk_184 0 25 (dk_at dksX1_at_0 7 rfl rfl)
theorem dX1_at_10 : decode cX1_at 10 = .ok (.aload_n 0, 1) := dk_42 (dk_at dksX1_at_0 10 rfl rfl)
theorem dX1_at_11 : decode cX1_at 11 = .ok (.iload_n 1, 1) := dk_27 (dk_at dksX1_at_0 11 rfl rfl)
theorem dX1_at_12 : decode cX1_at 12 = .ok (.invokeinterface 29 2, 5) := by decide +kernel
theorem dX1_at_17 : decode cX1_at 17 = .ok (.areturn, 1) := dk_176 (dk_at dksX1_at_0 17 rfl rfl)
abbrev cX1_corner : ByteArray := prog_1_method_20_code
def yX1_corner : MethodName := ⟨RX1, "corner", "(II)I"⟩
def dkwX1_corner_1 : List UInt8 := [45, 180, 0, 172, 28, 46, 172]
abbrev dktX1_corner_1 : List UInt8 := dkwX1_corner_1 ++ []
def dkwX1_corner_0 : List UInt8 := [42, 180, 0, 71, 180, 0, 120, 27, 184, 0, 199, 192, 0, 170, 78, 28, 45, 180, 0, 172, 190, 184, 0, 25]
abbrev dktX1_corner_0 : List UInt8 := dkwX1_corner_0 ++ dktX1_corner_1
theorem dksX1_corner_0 : cX1_corner.data.toList.drop 0 = dktX1_corner_0 := by decide +kernel
theorem dksX1_corner_1 : cX1_corner.data.toList.drop 24 = dktX1_corner_1 := dk_seg dksX1_corner_0 24 rfl rfl
theorem dX1_corner_0 : decode cX1_corner 0 = .ok (.aload_n 0, 1) := dk_42 (dk_at dksX1_corner_0 0 rfl rfl)
theorem dX1_corner_1 : decode cX1_corner 1 = .ok (.getfield 71, 3) := dk_180 0 71 (dk_at dksX1_corner_0 1 rfl rfl)
theorem dX1_corner_4 : decode cX1_corner 4 = .ok (.getfield 120, 3) := dk_180 0 120 (dk_at dksX1_corner_0 4 rfl rfl)
theorem dX1_corner_7 : decode cX1_corner 7 = .ok (.iload_n 1, 1) := dk_27 (dk_at dksX1_corner_0 7 rfl rfl)
theorem dX1_corner_8 : decode cX1_corner 8 = .ok (.invokestatic 199, 3) := dk_184 0 199 (dk_at dksX1_corner_0 8 rfl rfl)
theorem dX1_corner_11 : decode cX1_corner 11 = .ok (.checkcast 170, 3) := dk_192 0 170 (dk_at dksX1_corner_0 11 rfl rfl)
theorem dX1_corner_14 : decode cX1_corner 14 = .ok (.astore_n 3, 1) := dk_78 (dk_at dksX1_corner_0 14 rfl rfl)
theorem dX1_corner_15 : decode cX1_corner 15 = .ok (.iload_n 2, 1) := dk_28 (dk_at dksX1_corner_0 15 rfl rfl)
theorem dX1_corner_16 : decode cX1_corner 16 = .ok (.aload_n 3, 1) := dk_45 (dk_at dksX1_corner_0 16 rfl rfl)
theorem dX1_corner_17 : decode cX1_corner 17 = .ok (.getfield 172, 3) := dk_180 0 172 (dk_at dksX1_corner_0 17 rfl rfl)
theorem dX1_corner_20 : decode cX1_corner 20 = .ok (.arraylength, 1) := dk_190 (dk_at dksX1_corner_0 20 rfl rfl)
theorem dX1_corner_21 : decode cX1_corner 21 = .ok (.invokestatic 25, 3) := dk_184 0 25 (dk_at dksX1_corner_0 21 rfl rfl)
theorem dX1_corner_24 : decode cX1_corner 24 = .ok (.aload_n 3, 1) := dk_45 (dk_at dksX1_corner_1 0 rfl rfl)
theorem dX1_corner_25 : decode cX1_corner 25 = .ok (.getfield 172, 3) := dk_180 0 172 (dk_at dksX1_corner_1 1 rfl rfl)
theorem dX1_corner_28 : decode cX1_corner 28 = .ok (.iload_n 2, 1) := dk_28 (dk_at dksX1_corner_1 4 rfl rfl)
theorem dX1_corner_29 : decode cX1_corner 29 = .ok (.iaload, 1) := dk_46 (dk_at dksX1_corner_1 5 rfl rfl)
theorem dX1_corner_30 : decode cX1_corner 30 = .ok (.ireturn, 1) := dk_172 (dk_at dksX1_corner_1 6 rfl rfl)
abbrev cX1_lies : ByteArray := prog_1_method_21_code
def yX1_lies : MethodName := ⟨RX1, "lies", "(II)I"⟩
def dkwX1_lies_2 : List UInt8 := [172]
abbrev dktX1_lies_2 : List UInt8 := dkwX1_lies_2 ++ []
def dkwX1_lies_1 : List UInt8 := [192, 0, 170, 42, 180, 0, 71, 180, 0, 146, 27, 46, 42, 180, 0, 71, 180, 0, 149, 27, 46, 182, 0, 206]
abbrev dktX1_lies_1 : List UInt8 := dkwX1_lies_1 ++ dktX1_lies_2
def dkwX1_lies_0 : List UInt8 := [27, 42, 180, 0, 71, 180, 0, 117, 184, 0, 25, 42, 180, 0, 71, 180, 0, 120, 28, 184, 0, 199]
abbrev dktX1_lies_0 : List UInt8 := dkwX1_lies_0 ++ dktX1_lies_1
theorem dksX1_lies_0 : cX1_lies.data.toList.drop 0 = dktX1_lies_0 := by decide +kernel
theorem dksX1_lies_1 : cX1_lies.data.toList.drop 22 = dktX1_lies_1 := dk_seg dksX1_lies_0 22 rfl rfl
theorem dksX1_lies_2 : cX1_lies.data.toList.drop 46 = dktX1_lies_2 := dk_seg dksX1_lies_1 24 rfl rfl
theorem dX1_lies_0 : decode cX1_lies 0 = .ok (.iload_n 1, 1) := dk_27 (dk_at dksX1_lies_0 0 rfl rfl)
theorem dX1_lies_1 : decode cX1_lies 1 = .ok (.aload_n 0, 1) := dk_42 (dk_at dksX1_lies_0 1 rfl rfl)
theorem dX1_lies_2 : decode cX1_lies 2 = .ok (.getfield 71, 3) := dk_180 0 71 (dk_at dksX1_lies_0 2 rfl rfl)
theorem dX1_lies_5 : decode cX1_lies 5 = .ok (.getfield 117, 3) := dk_180 0 117 (dk_at dksX1_lies_0 5 rfl rfl)
theorem dX1_lies_8 : decode cX1_lies 8 = .ok (.invokestatic 25, 3) := dk_184 0 25 (dk_at dksX1_lies_0 8 rfl rfl)
theorem dX1_lies_11 : decode cX1_lies 11 = .ok (.aload_n 0, 1) := dk_42 (dk_at dksX1_lies_0 11 rfl rfl)
theorem dX1_lies_12 : decode cX1_lies 12 = .ok (.getfield 71, 3) := dk_180 0 71 (dk_at dksX1_lies_0 12 rfl rfl)
theorem dX1_lies_15 : decode cX1_lies 15 = .ok (.getfield 120, 3) := dk_180 0 120 (dk_at dksX1_lies_0 15 rfl rfl)
theorem dX1_lies_18 : decode cX1_lies 18 = .ok (.iload_n 2, 1) := dk_28 (dk_at dksX1_lies_0 18 rfl rfl)
theorem dX1_lies_19 : decode cX1_lies 19 = .ok (.invokestatic 199, 3) := dk_184 0 199 (dk_at dksX1_lies_0 19 rfl rfl)
theorem dX1_lies_22 : decode cX1_lies 22 = .ok (.checkcast 170, 3) := dk_192 0 170 (dk_at dksX1_lies_1 0 rfl rfl)
theorem dX1_lies_25 : decode cX1_lies 25 = .ok (.aload_n 0, 1) := dk_42 (dk_at dksX1_lies_1 3 rfl rfl)
theorem dX1_lies_26 : decode cX1_lies 26 = .ok (.getfield 71, 3) := dk_180 0 71 (dk_at dksX1_lies_1 4 rfl rfl)
theorem dX1_lies_29 : decode cX1_lies 29 = .ok (.getfield 146, 3) := dk_180 0 146 (dk_at dksX1_lies_1 7 rfl rfl)
theorem dX1_lies_32 : decode cX1_lies 32 = .ok (.iload_n 1, 1) := dk_27 (dk_at dksX1_lies_1 10 rfl rfl)
theorem dX1_lies_33 : decode cX1_lies 33 = .ok (.iaload, 1) := dk_46 (dk_at dksX1_lies_1 11 rfl rfl)
theorem dX1_lies_34 : decode cX1_lies 34 = .ok (.aload_n 0, 1) := dk_42 (dk_at dksX1_lies_1 12 rfl rfl)
theorem dX1_lies_35 : decode cX1_lies 35 = .ok (.getfield 71, 3) := dk_180 0 71 (dk_at dksX1_lies_1 13 rfl rfl)
theorem dX1_lies_38 : decode cX1_lies 38 = .ok (.getfield 149, 3) := dk_180 0 149 (dk_at dksX1_lies_1 16 rfl rfl)
theorem dX1_lies_41 : decode cX1_lies 41 = .ok (.iload_n 1, 1) := dk_27 (dk_at dksX1_lies_1 19 rfl rfl)
theorem dX1_lies_42 : decode cX1_lies 42 = .ok (.iaload, 1) := dk_46 (dk_at dksX1_lies_1 20 rfl rfl)
theorem dX1_lies_43 : decode cX1_lies 43 = .ok (.invokevirtual 206, 3) := dk_182 0 206 (dk_at dksX1_lies_1 21 rfl rfl)
theorem dX1_lies_46 : decode cX1_lies 46 = .ok (.ireturn, 1) := dk_172 (dk_at dksX1_lies_2 0 rfl rfl)
abbrev cX1_crosses : ByteArray := prog_1_method_22_code
def yX1_crosses : MethodName := ⟨RX1, "crosses", "(II)I"⟩
def dkwX1_crosses_1 : List UInt8 := [184, 0, 199, 192, 0, 170, 182, 0, 189, 172]
abbrev dktX1_crosses_1 : List UInt8 := dkwX1_crosses_1 ++ []
def dkwX1_crosses_0 : List UInt8 := [42, 180, 0, 71, 180, 0, 120, 27, 184, 0, 199, 192, 0, 170, 78, 45, 42, 180, 0, 71, 180, 0, 120, 28]
abbrev dktX1_crosses_0 : List UInt8 := dkwX1_crosses_0 ++ dktX1_crosses_1
theorem dksX1_crosses_0 : cX1_crosses.data.toList.drop 0 = dktX1_crosses_0 := by decide +kernel
theorem dksX1_crosses_1 : cX1_crosses.data.toList.drop 24 = dktX1_crosses_1 := dk_seg dksX1_crosses_0 24 rfl rfl
theorem dX1_crosses_0 : decode cX1_crosses 0 = .ok (.aload_n 0, 1) := dk_42 (dk_at dksX1_crosses_0 0 rfl rfl)
theorem dX1_crosses_1 : decode cX1_crosses 1 = .ok (.getfield 71, 3) := dk_180 0 71 (dk_at dksX1_crosses_0 1 rfl rfl)
theorem dX1_crosses_4 : decode cX1_crosses 4 = .ok (.getfield 120, 3) := dk_180 0 120 (dk_at dksX1_crosses_0 4 rfl rfl)
theorem dX1_crosses_7 : decode cX1_crosses 7 = .ok (.iload_n 1, 1) := dk_27 (dk_at dksX1_crosses_0 7 rfl rfl)
theorem dX1_crosses_8 : decode cX1_crosses 8 = .ok (.invokestatic 199, 3) := dk_184 0 199 (dk_at dksX1_crosses_0 8 rfl rfl)
theorem dX1_crosses_11 : decode cX1_crosses 11 = .ok (.checkcast 170, 3) := dk_192 0 170 (dk_at dksX1_crosses_0 11 rfl rfl)
theorem dX1_crosses_14 : decode cX1_crosses 14 = .ok (.astore_n 3, 1) := dk_78 (dk_at dksX1_crosses_0 14 rfl rfl)
theorem dX1_crosses_15 : decode cX1_crosses 15 = .ok (.aload_n 3, 1) := dk_45 (dk_at dksX1_crosses_0 15 rfl rfl)
theorem dX1_crosses_16 : decode cX1_crosses 16 = .ok (.aload_n 0, 1) := dk_42 (dk_at dksX1_crosses_0 16 rfl rfl)
theorem dX1_crosses_17 : decode cX1_crosses 17 = .ok (.getfield 71, 3) := dk_180 0 71 (dk_at dksX1_crosses_0 17 rfl rfl)
theorem dX1_crosses_20 : decode cX1_crosses 20 = .ok (.getfield 120, 3) := dk_180 0 120 (dk_at dksX1_crosses_0 20 rfl rfl)
theorem dX1_crosses_23 : decode cX1_crosses 23 = .ok (.iload_n 2, 1) := dk_28 (dk_at dksX1_crosses_0 23 rfl rfl)
theorem dX1_crosses_24 : decode cX1_crosses 24 = .ok (.invokestatic 199, 3) := dk_184 0 199 (dk_at dksX1_crosses_1 0 rfl rfl)
theorem dX1_crosses_27 : decode cX1_crosses 27 = .ok (.checkcast 170, 3) := dk_192 0 170 (dk_at dksX1_crosses_1 3 rfl rfl)
theorem dX1_crosses_30 : decode cX1_crosses 30 = .ok (.invokevirtual 189, 3) := dk_182 0 189 (dk_at dksX1_crosses_1 6 rfl rfl)
theorem dX1_crosses_33 : decode cX1_crosses 33 = .ok (.ireturn, 1) := dk_172 (dk_at dksX1_crosses_1 9 rfl rfl)
abbrev cX1_hull : ByteArray := prog_1_method_24_code
def yX1_hull : MethodName := ⟨RX1, "hull", "(II)I"⟩
def dkwX1_hull_1 : List UInt8 := [184, 0, 218, 172]
abbrev dktX1_hull_1 : List UInt8 := dkwX1_hull_1 ++ []
def dkwX1_hull_0 : List UInt8 := [42, 180, 0, 71, 180, 0, 120, 27, 184, 0, 199, 192, 0, 170, 78, 28, 6, 184, 0, 25, 45, 28]
abbrev dktX1_hull_0 : List UInt8 := dkwX1_hull_0 ++ dktX1_hull_1
theorem dksX1_hull_0 : cX1_hull.data.toList.drop 0 = dktX1_hull_0 := by decide +kernel
theorem dksX1_hull_1 : cX1_hull.data.toList.drop 22 = dktX1_hull_1 := dk_seg dksX1_hull_0 22 rfl rfl
theorem dX1_hull_0 : decode cX1_hull 0 = .ok (.aload_n 0, 1) := dk_42 (dk_at dksX1_hull_0 0 rfl rfl)
theorem dX1_hull_1 : decode cX1_hull 1 = .ok (.getfield 71, 3) := dk_180 0 71 (dk_at dksX1_hull_0 1 rfl rfl)
theorem dX1_hull_4 : decode cX1_hull 4 = .ok (.getfield 120, 3) := dk_180 0 120 (dk_at dksX1_hull_0 4 rfl rfl)
theorem dX1_hull_7 : decode cX1_hull 7 = .ok (.iload_n 1, 1) := dk_27 (dk_at dksX1_hull_0 7 rfl rfl)
theorem dX1_hull_8 : decode cX1_hull 8 = .ok (.invokestatic 199, 3) := dk_184 0 199 (dk_at dksX1_hull_0 8 rfl rfl)
theorem dX1_hull_11 : decode cX1_hull 11 = .ok (.checkcast 170, 3) := dk_192 0 170 (dk_at dksX1_hull_0 11 rfl rfl)
theorem dX1_hull_14 : decode cX1_hull 14 = .ok (.astore_n 3, 1) := dk_78 (dk_at dksX1_hull_0 14 rfl rfl)
theorem dX1_hull_15 : decode cX1_hull 15 = .ok (.iload_n 2, 1) := dk_28 (dk_at dksX1_hull_0 15 rfl rfl)
theorem dX1_hull_16 : decode cX1_hull 16 = .ok (.iconst 3, 1) := dk_6 (dk_at dksX1_hull_0 16 rfl rfl)
theorem dX1_hull_17 : decode cX1_hull 17 = .ok (.invokestatic 25, 3) := dk_184 0 25 (dk_at dksX1_hull_0 17 rfl rfl)
theorem dX1_hull_20 : decode cX1_hull 20 = .ok (.aload_n 3, 1) := dk_45 (dk_at dksX1_hull_0 20 rfl rfl)
theorem dX1_hull_21 : decode cX1_hull 21 = .ok (.iload_n 2, 1) := dk_28 (dk_at dksX1_hull_0 21 rfl rfl)
theorem dX1_hull_22 : decode cX1_hull 22 = .ok (.invokestatic 218, 3) := dk_184 0 218 (dk_at dksX1_hull_1 0 rfl rfl)
theorem dX1_hull_25 : decode cX1_hull 25 = .ok (.ireturn, 1) := dk_172 (dk_at dksX1_hull_1 3 rfl rfl)
abbrev cX1_hullCorner : ByteArray := prog_1_method_25_code
def yX1_hullCorner : MethodName := ⟨RX1, "hullCorner", "(II)I"⟩
def dkwX1_hullCorner_1 : List UInt8 := [182, 0, 221, 172]
abbrev dktX1_hullCorner_1 : List UInt8 := dkwX1_hullCorner_1 ++ []
def dkwX1_hullCorner_0 : List UInt8 := [42, 180, 0, 71, 180, 0, 120, 27, 184, 0, 199, 192, 0, 170, 182, 0, 209, 28, 184, 0, 199, 192, 0, 185]
abbrev dktX1_hullCorner_0 : List UInt8 := dkwX1_hullCorner_0 ++ dktX1_hullCorner_1
theorem dksX1_hullCorner_0 : cX1_hullCorner.data.toList.drop 0 = dktX1_hullCorner_0 := by decide +kernel
theorem dksX1_hullCorner_1 : cX1_hullCorner.data.toList.drop 24 = dktX1_hullCorner_1 := dk_seg dksX1_hullCorner_0 24 rfl rfl
theorem dX1_hullCorner_0 : decode cX1_hullCorner 0 = .ok (.aload_n 0, 1) := dk_42 (dk_at dksX1_hullCorner_0 0 rfl rfl)
theorem dX1_hullCorner_1 : decode cX1_hullCorner 1 = .ok (.getfield 71, 3) := dk_180 0 71 (dk_at dksX1_hullCorner_0 1 rfl rfl)
theorem dX1_hullCorner_4 : decode cX1_hullCorner 4 = .ok (.getfield 120, 3) := dk_180 0 120 (dk_at dksX1_hullCorner_0 4 rfl rfl)
theorem dX1_hullCorner_7 : decode cX1_hullCorner 7 = .ok (.iload_n 1, 1) := dk_27 (dk_at dksX1_hullCorner_0 7 rfl rfl)
theorem dX1_hullCorner_8 : decode cX1_hullCorner 8 = .ok (.invokestatic 199, 3) := dk_184 0 199 (dk_at dksX1_hullCorner_0 8 rfl rfl)
theorem dX1_hullCorner_11 : decode cX1_hullCorner 11 = .ok (.checkcast 170, 3) := dk_192 0 170 (dk_at dksX1_hullCorner_0 11 rfl rfl)
theorem dX1_hullCorner_14 : decode cX1_hullCorner 14 = .ok (.invokevirtual 209, 3) := dk_182 0 209 (dk_at dksX1_hullCorner_0 14 rfl rfl)
theorem dX1_hullCorner_17 : decode cX1_hullCorner 17 = .ok (.iload_n 2, 1) := dk_28 (dk_at dksX1_hullCorner_0 17 rfl rfl)
theorem dX1_hullCorner_18 : decode cX1_hullCorner 18 = .ok (.invokestatic 199, 3) := dk_184 0 199 (dk_at dksX1_hullCorner_0 18 rfl rfl)
theorem dX1_hullCorner_21 : decode cX1_hullCorner 21 = .ok (.checkcast 185, 3) := dk_192 0 185 (dk_at dksX1_hullCorner_0 21 rfl rfl)
theorem dX1_hullCorner_24 : decode cX1_hullCorner 24 = .ok (.invokevirtual 221, 3) := dk_182 0 221 (dk_at dksX1_hullCorner_1 0 rfl rfl)
theorem dX1_hullCorner_27 : decode cX1_hullCorner 27 = .ok (.ireturn, 1) := dk_172 (dk_at dksX1_hullCorner_1 3 rfl rfl)
abbrev cX1_nearest : ByteArray := prog_1_method_26_code
def yX1_nearest : MethodName := ⟨RX1, "nearest", "(II)I"⟩
def dkwX1_nearest_3 : List UInt8 := [132, 4, 1, 167, 255, 209, 29, 172]
abbrev dktX1_nearest_3 : List UInt8 := dkwX1_nearest_3 ++ []
def dkwX1_nearest_2 : List UInt8 := [21, 4, 27, 28, 182, 0, 224, 42, 180, 0, 71, 29, 27, 28, 182, 0, 224, 162, 0, 6, 21, 4, 62]
abbrev dktX1_nearest_2 : List UInt8 := dkwX1_nearest_2 ++ dktX1_nearest_3
def dkwX1_nearest_1 : List UInt8 := [54, 4, 21, 4, 42, 180, 0, 71, 180, 0, 117, 162, 0, 41, 29, 2, 159, 0, 27, 42, 180, 0, 71]
abbrev dktX1_nearest_1 : List UInt8 := dkwX1_nearest_1 ++ dktX1_nearest_2
def dkwX1_nearest_0 : List UInt8 := [17, 252, 25, 17, 3, 231, 27, 184, 0, 87, 17, 252, 25, 17, 3, 231, 28, 184, 0, 87, 2, 62, 3]
abbrev dktX1_nearest_0 : List UInt8 := dkwX1_nearest_0 ++ dktX1_nearest_1
theorem dksX1_nearest_0 : cX1_nearest.data.toList.drop 0 = dktX1_nearest_0 := by decide +kernel
theorem dksX1_nearest_1 : cX1_nearest.data.toList.drop 23 = dktX1_nearest_1 := dk_seg dksX1_nearest_0 23 rfl rfl
theorem dksX1_nearest_2 : cX1_nearest.data.toList.drop 46 = dktX1_nearest_2 := dk_seg dksX1_nearest_1 23 rfl rfl
theorem dksX1_nearest_3 : cX1_nearest.data.toList.drop 69 = dktX1_nearest_3 := dk_seg dksX1_nearest_2 23 rfl rfl
theorem dX1_nearest_0 : decode cX1_nearest 0 = .ok (.sipush (-999), 3) := dk_17 252 25 (dk_at dksX1_nearest_0 0 rfl rfl)
theorem dX1_nearest_3 : decode cX1_nearest 3 = .ok (.sipush 999, 3) := dk_17 3 231 (dk_at dksX1_nearest_0 3 rfl rfl)
theorem dX1_nearest_6 : decode cX1_nearest 6 = .ok (.iload_n 1, 1) := dk_27 (dk_at dksX1_nearest_0 6 rfl rfl)
theorem dX1_nearest_7 : decode cX1_nearest 7 = .ok (.invokestatic 87, 3) := dk_184 0 87 (dk_at dksX1_nearest_0 7 rfl rfl)
theorem dX1_nearest_10 : decode cX1_nearest 10 = .ok (.sipush (-999), 3) := dk_17 252 25 (dk_at dksX1_nearest_0 10 rfl rfl)
theorem dX1_nearest_13 : decode cX1_nearest 13 = .ok (.sipush 999, 3) := dk_17 3 231 (dk_at dksX1_nearest_0 13 rfl rfl)
theorem dX1_nearest_16 : decode cX1_nearest 16 = .ok (.iload_n 2, 1) := dk_28 (dk_at dksX1_nearest_0 16 rfl rfl)
theorem dX1_nearest_17 : decode cX1_nearest 17 = .ok (.invokestatic 87, 3) := dk_184 0 87 (dk_at dksX1_nearest_0 17 rfl rfl)
theorem dX1_nearest_20 : decode cX1_nearest 20 = .ok (.iconst (-1), 1) := dk_2 (dk_at dksX1_nearest_0 20 rfl rfl)
theorem dX1_nearest_21 : decode cX1_nearest 21 = .ok (.istore_n 3, 1) := dk_62 (dk_at dksX1_nearest_0 21 rfl rfl)
theorem dX1_nearest_22 : decode cX1_nearest 22 = .ok (.iconst 0, 1) := dk_3 (dk_at dksX1_nearest_0 22 rfl rfl)
theorem dX1_nearest_23 : decode cX1_nearest 23 = .ok (.istore 4, 2) := dk_54 4 (dk_at dksX1_nearest_1 0 rfl rfl)
theorem dX1_nearest_25 : decode cX1_nearest 25 = .ok (.iload 4, 2) := dk_21 4 (dk_at dksX1_nearest_1 2 rfl rfl)
theorem dX1_nearest_27 : decode cX1_nearest 27 = .ok (.aload_n 0, 1) := dk_42 (dk_at dksX1_nearest_1 4 rfl rfl)
theorem dX1_nearest_28 : decode cX1_nearest 28 = .ok (.getfield 71, 3) := dk_180 0 71 (dk_at dksX1_nearest_1 5 rfl rfl)
theorem dX1_nearest_31 : decode cX1_nearest 31 = .ok (.getfield 117, 3) := dk_180 0 117 (dk_at dksX1_nearest_1 8 rfl rfl)
theorem dX1_nearest_34 : decode cX1_nearest 34 = .ok (.if_icmp .ge 41, 3) := dk_162 0 41 (dk_at dksX1_nearest_1 11 rfl rfl)
theorem dX1_nearest_37 : decode cX1_nearest 37 = .ok (.iload_n 3, 1) := dk_29 (dk_at dksX1_nearest_1 14 rfl rfl)
theorem dX1_nearest_38 : decode cX1_nearest 38 = .ok (.iconst (-1), 1) := dk_2 (dk_at dksX1_nearest_1 15 rfl rfl)
theorem dX1_nearest_39 : decode cX1_nearest 39 = .ok (.if_icmp .eq 27, 3) := dk_159 0 27 (dk_at dksX1_nearest_1 16 rfl rfl)
theorem dX1_nearest_42 : decode cX1_nearest 42 = .ok (.aload_n 0, 1) := dk_42 (dk_at dksX1_nearest_1 19 rfl rfl)
theorem dX1_nearest_43 : decode cX1_nearest 43 = .ok (.getfield 71, 3) := dk_180 0 71 (dk_at dksX1_nearest_1 20 rfl rfl)
theorem dX1_nearest_46 : decode cX1_nearest 46 = .ok (.iload 4, 2) := dk_21 4 (dk_at dksX1_nearest_2 0 rfl rfl)
theorem dX1_nearest_48 : decode cX1_nearest 48 = .ok (.iload_n 1, 1) := dk_27 (dk_at dksX1_nearest_2 2 rfl rfl)
theorem dX1_nearest_49 : decode cX1_nearest 49 = .ok (.iload_n 2, 1) := dk_28 (dk_at dksX1_nearest_2 3 rfl rfl)
theorem dX1_nearest_50 : decode cX1_nearest 50 = .ok (.invokevirtual 224, 3) := dk_182 0 224 (dk_at dksX1_nearest_2 4 rfl rfl)
theorem dX1_nearest_53 : decode cX1_nearest 53 = .ok (.aload_n 0, 1) := dk_42 (dk_at dksX1_nearest_2 7 rfl rfl)
theorem dX1_nearest_54 : decode cX1_nearest 54 = .ok (.getfield 71, 3) := dk_180 0 71 (dk_at dksX1_nearest_2 8 rfl rfl)
theorem dX1_nearest_57 : decode cX1_nearest 57 = .ok (.iload_n 3, 1) := dk_29 (dk_at dksX1_nearest_2 11 rfl rfl)
theorem dX1_nearest_58 : decode cX1_nearest 58 = .ok (.iload_n 1, 1) := dk_27 (dk_at dksX1_nearest_2 12 rfl rfl)
theorem dX1_nearest_59 : decode cX1_nearest 59 = .ok (.iload_n 2, 1) := dk_28 (dk_at dksX1_nearest_2 13 rfl rfl)
theorem dX1_nearest_60 : decode cX1_nearest 60 = .ok (.invokevirtual 224, 3) := dk_182 0 224 (dk_at dksX1_nearest_2 14 rfl rfl)
theorem dX1_nearest_63 : decode cX1_nearest 63 = .ok (.if_icmp .ge 6, 3) := dk_162 0 6 (dk_at dksX1_nearest_2 17 rfl rfl)
theorem dX1_nearest_66 : decode cX1_nearest 66 = .ok (.iload 4, 2) := dk_21 4 (dk_at dksX1_nearest_2 20 rfl rfl)
theorem dX1_nearest_68 : decode cX1_nearest 68 = .ok (.istore_n 3, 1) := dk_62 (dk_at dksX1_nearest_2 22 rfl rfl)
theorem dX1_nearest_69 : decode cX1_nearest 69 = .ok (.iinc 4 1, 3) := dk_132 4 1 (dk_at dksX1_nearest_3 0 rfl rfl)
theorem dX1_nearest_72 : decode cX1_nearest 72 = .ok (.goto (-47), 3) := dk_167 255 209 (dk_at dksX1_nearest_3 3 rfl rfl)
theorem dX1_nearest_75 : decode cX1_nearest 75 = .ok (.iload_n 3, 1) := dk_29 (dk_at dksX1_nearest_3 6 rfl rfl)
theorem dX1_nearest_76 : decode cX1_nearest 76 = .ok (.ireturn, 1) := dk_172 (dk_at dksX1_nearest_3 7 rfl rfl)
abbrev cX1_enter : ByteArray := prog_1_method_27_code
def yX1_enter : MethodName := ⟨RX1, "enter", "(II)I"⟩
def dkwX1_enter_5 : List UInt8 := [160, 0, 6, 21, 4, 172, 132, 5, 1, 167, 255, 175, 132, 4, 1, 167, 255, 157, 2, 172]
abbrev dktX1_enter_5 : List UInt8 := dkwX1_enter_5 ++ []
def dkwX1_enter_4 : List UInt8 := [159, 0, 25, 45, 21, 7, 42, 180, 0, 71, 180, 0, 149, 27, 46, 21, 6, 100, 182, 0, 206, 4]
abbrev dktX1_enter_4 : List UInt8 := dkwX1_enter_4 ++ dktX1_enter_5
def dkwX1_enter_3 : List UInt8 := [96, 54, 7, 45, 21, 7, 42, 180, 0, 71, 180, 0, 149, 27, 46, 21, 6, 96, 182, 0, 206, 4]
abbrev dktX1_enter_3 : List UInt8 := dkwX1_enter_3 ++ dktX1_enter_4
def dkwX1_enter_2 : List UInt8 := [163, 0, 80, 21, 4, 21, 5, 184, 0, 181, 100, 54, 6, 42, 180, 0, 71, 180, 0, 146, 27, 46, 21, 5]
abbrev dktX1_enter_2 : List UInt8 := dkwX1_enter_2 ++ dktX1_enter_3
def dkwX1_enter_1 : List UInt8 := [192, 0, 170, 78, 3, 54, 4, 21, 4, 16, 12, 163, 0, 98, 21, 4, 116, 54, 5, 21, 5, 21, 4]
abbrev dktX1_enter_1 : List UInt8 := dkwX1_enter_1 ++ dktX1_enter_2
def dkwX1_enter_0 : List UInt8 := [27, 42, 180, 0, 71, 180, 0, 117, 184, 0, 25, 42, 180, 0, 71, 180, 0, 120, 28, 184, 0, 199]
abbrev dktX1_enter_0 : List UInt8 := dkwX1_enter_0 ++ dktX1_enter_1
theorem dksX1_enter_0 : cX1_enter.data.toList.drop 0 = dktX1_enter_0 := by decide +kernel
theorem dksX1_enter_1 : cX1_enter.data.toList.drop 22 = dktX1_enter_1 := dk_seg dksX1_enter_0 22 rfl rfl
theorem dksX1_enter_2 : cX1_enter.data.toList.drop 45 = dktX1_enter_2 := dk_seg dksX1_enter_1 23 rfl rfl
theorem dksX1_enter_3 : cX1_enter.data.toList.drop 69 = dktX1_enter_3 := dk_seg dksX1_enter_2 24 rfl rfl
theorem dksX1_enter_4 : cX1_enter.data.toList.drop 91 = dktX1_enter_4 := dk_seg dksX1_enter_3 22 rfl rfl
theorem dksX1_enter_5 : cX1_enter.data.toList.drop 113 = dktX1_enter_5 := dk_seg dksX1_enter_4 22 rfl rfl
theorem dX1_enter_0 : decode cX1_enter 0 = .ok (.iload_n 1, 1) := dk_27 (dk_at dksX1_enter_0 0 rfl rfl)
theorem dX1_enter_1 : decode cX1_enter 1 = .ok (.aload_n 0, 1) := dk_42 (dk_at dksX1_enter_0 1 rfl rfl)
theorem dX1_enter_2 : decode cX1_enter 2 = .ok (.getfield 71, 3) := dk_180 0 71 (dk_at dksX1_enter_0 2 rfl rfl)
theorem dX1_enter_5 : decode cX1_enter 5 = .ok (.getfield 117, 3) := dk_180 0 117 (dk_at dksX1_enter_0 5 rfl rfl)
theorem dX1_enter_8 : decode cX1_enter 8 = .ok (.invokestatic 25, 3) := dk_184 0 25 (dk_at dksX1_enter_0 8 rfl rfl)
theorem dX1_enter_11 : decode cX1_enter 11 = .ok (.aload_n 0, 1) := dk_42 (dk_at dksX1_enter_0 11 rfl rfl)
theorem dX1_enter_12 : decode cX1_enter 12 = .ok (.getfield 71, 3) := dk_180 0 71 (dk_at dksX1_enter_0 12 rfl rfl)
theorem dX1_enter_15 : decode cX1_enter 15 = .ok (.getfield 120, 3) := dk_180 0 120 (dk_at dksX1_enter_0 15 rfl rfl)
theorem dX1_enter_18 : decode cX1_enter 18 = .ok (.iload_n 2, 1) := dk_28 (dk_at dksX1_enter_0 18 rfl rfl)
theorem dX1_enter_19 : decode cX1_enter 19 = .ok (.invokestatic 199, 3) := dk_184 0 199 (dk_at dksX1_enter_0 19 rfl rfl)
theorem dX1_enter_22 : decode cX1_enter 22 = .ok (.checkcast 170, 3) := dk_192 0 170 (dk_at dksX1_enter_1 0 rfl rfl)
theorem dX1_enter_25 : decode cX1_enter 25 = .ok (.astore_n 3, 1) := dk_78 (dk_at dksX1_enter_1 3 rfl rfl)
theorem dX1_enter_26 : decode cX1_enter 26 = .ok (.iconst 0, 1) := dk_3 (dk_at dksX1_enter_1 4 rfl rfl)
theorem dX1_enter_27 : decode cX1_enter 27 = .ok (.istore 4, 2) := dk_54 4 (dk_at dksX1_enter_1 5 rfl rfl)
theorem dX1_enter_29 : decode cX1_enter 29 = .ok (.iload 4, 2) := dk_21 4 (dk_at dksX1_enter_1 7 rfl rfl)
theorem dX1_enter_31 : decode cX1_enter 31 = .ok (.bipush 12, 2) := dk_16 12 (dk_at dksX1_enter_1 9 rfl rfl)
theorem dX1_enter_33 : decode cX1_enter 33 = .ok (.if_icmp .gt 98, 3) := dk_163 0 98 (dk_at dksX1_enter_1 11 rfl rfl)
theorem dX1_enter_36 : decode cX1_enter 36 = .ok (.iload 4, 2) := dk_21 4 (dk_at dksX1_enter_1 14 rfl rfl)
theorem dX1_enter_38 : decode cX1_enter 38 = .ok (.ineg, 1) := dk_116 (dk_at dksX1_enter_1 16 rfl rfl)
theorem dX1_enter_39 : decode cX1_enter 39 = .ok (.istore 5, 2) := dk_54 5 (dk_at dksX1_enter_1 17 rfl rfl)
theorem dX1_enter_41 : decode cX1_enter 41 = .ok (.iload 5, 2) := dk_21 5 (dk_at dksX1_enter_1 19 rfl rfl)
theorem dX1_enter_43 : decode cX1_enter 43 = .ok (.iload 4, 2) := dk_21 4 (dk_at dksX1_enter_1 21 rfl rfl)
theorem dX1_enter_45 : decode cX1_enter 45 = .ok (.if_icmp .gt 80, 3) := dk_163 0 80 (dk_at dksX1_enter_2 0 rfl rfl)
theorem dX1_enter_48 : decode cX1_enter 48 = .ok (.iload 4, 2) := dk_21 4 (dk_at dksX1_enter_2 3 rfl rfl)
theorem dX1_enter_50 : decode cX1_enter 50 = .ok (.iload 5, 2) := dk_21 5 (dk_at dksX1_enter_2 5 rfl rfl)
theorem dX1_enter_52 : decode cX1_enter 52 = .ok (.invokestatic 181, 3) := dk_184 0 181 (dk_at dksX1_enter_2 7 rfl rfl)
theorem dX1_enter_55 : decode cX1_enter 55 = .ok (.isub, 1) := dk_100 (dk_at dksX1_enter_2 10 rfl rfl)
theorem dX1_enter_56 : decode cX1_enter 56 = .ok (.istore 6, 2) := dk_54 6 (dk_at dksX1_enter_2 11 rfl rfl)
theorem dX1_enter_58 : decode cX1_enter 58 = .ok (.aload_n 0, 1) := dk_42 (dk_at dksX1_enter_2 13 rfl rfl)
theorem dX1_enter_59 : decode cX1_enter 59 = .ok (.getfield 71, 3) := dk_180 0 71 (dk_at dksX1_enter_2 14 rfl rfl)
theorem dX1_enter_62 : decode cX1_enter 62 = .ok (.getfield 146, 3) := dk_180 0 146 (dk_at dksX1_enter_2 17 rfl rfl)
theorem dX1_enter_65 : decode cX1_enter 65 = .ok (.iload_n 1, 1) := dk_27 (dk_at dksX1_enter_2 20 rfl rfl)
theorem dX1_enter_66 : decode cX1_enter 66 = .ok (.iaload, 1) := dk_46 (dk_at dksX1_enter_2 21 rfl rfl)
theorem dX1_enter_67 : decode cX1_enter 67 = .ok (.iload 5, 2) := dk_21 5 (dk_at dksX1_enter_2 22 rfl rfl)
theorem dX1_enter_69 : decode cX1_enter 69 = .ok (.iadd, 1) := dk_96 (dk_at dksX1_enter_3 0 rfl rfl)
theorem dX1_enter_70 : decode cX1_enter 70 = .ok (.istore 7, 2) := dk_54 7 (dk_at dksX1_enter_3 1 rfl rfl)
theorem dX1_enter_72 : decode cX1_enter 72 = .ok (.aload_n 3, 1) := dk_45 (dk_at dksX1_enter_3 3 rfl rfl)
theorem dX1_enter_73 : decode cX1_enter 73 = .ok (.iload 7, 2) := dk_21 7 (dk_at dksX1_enter_3 4 rfl rfl)
theorem dX1_enter_75 : decode cX1_enter 75 = .ok (.aload_n 0, 1) := dk_42 (dk_at dksX1_enter_3 6 rfl rfl)
theorem dX1_enter_76 : decode cX1_enter 76 = .ok (.getfield 71, 3) := dk_180 0 71 (dk_at dksX1_enter_3 7 rfl rfl)
theorem dX1_enter_79 : decode cX1_enter 79 = .ok (.getfield 149, 3) := dk_180 0 149 (dk_at dksX1_enter_3 10 rfl rfl)
theorem dX1_enter_82 : decode cX1_enter 82 = .ok (.iload_n 1, 1) := dk_27 (dk_at dksX1_enter_3 13 rfl rfl)
theorem dX1_enter_83 : decode cX1_enter 83 = .ok (.iaload, 1) := dk_46 (dk_at dksX1_enter_3 14 rfl rfl)
theorem dX1_enter_84 : decode cX1_enter 84 = .ok (.iload 6, 2) := dk_21 6 (dk_at dksX1_enter_3 15 rfl rfl)
theorem dX1_enter_86 : decode cX1_enter 86 = .ok (.iadd, 1) := dk_96 (dk_at dksX1_enter_3 17 rfl rfl)
theorem dX1_enter_87 : decode cX1_enter 87 = .ok (.invokevirtual 206, 3) := dk_182 0 206 (dk_at dksX1_enter_3 18 rfl rfl)
theorem dX1_enter_90 : decode cX1_enter 90 = .ok (.iconst 1, 1) := dk_4 (dk_at dksX1_enter_3 21 rfl rfl)
theorem dX1_enter_91 : decode cX1_enter 91 = .ok (.if_icmp .eq 25, 3) := dk_159 0 25 (dk_at dksX1_enter_4 0 rfl rfl)
theorem dX1_enter_94 : decode cX1_enter 94 = .ok (.aload_n 3, 1) := dk_45 (dk_at dksX1_enter_4 3 rfl rfl)
theorem dX1_enter_95 : decode cX1_enter 95 = .ok (.iload 7, 2) := dk_21 7 (dk_at dksX1_enter_4 4 rfl rfl)
theorem dX1_enter_97 : decode cX1_enter 97 = .ok (.aload_n 0, 1) := dk_42 (dk_at dksX1_enter_4 6 rfl rfl)
theorem dX1_enter_98 : decode cX1_enter 98 = .ok (.getfield 71, 3) := dk_180 0 71 (dk_at dksX1_enter_4 7 rfl rfl)
theorem dX1_enter_101 : decode cX1_enter 101 = .ok (.getfield 149, 3) := dk_180 0 149 (dk_at dksX1_enter_4 10 rfl rfl)
theorem dX1_enter_104 : decode cX1_enter 104 = .ok (.iload_n 1, 1) := dk_27 (dk_at dksX1_enter_4 13 rfl rfl)
theorem dX1_enter_105 : decode cX1_enter 105 = .ok (.iaload, 1) := dk_46 (dk_at dksX1_enter_4 14 rfl rfl)
theorem dX1_enter_106 : decode cX1_enter 106 = .ok (.iload 6, 2) := dk_21 6 (dk_at dksX1_enter_4 15 rfl rfl)
theorem dX1_enter_108 : decode cX1_enter 108 = .ok (.isub, 1) := dk_100 (dk_at dksX1_enter_4 17 rfl rfl)
theorem dX1_enter_109 : decode cX1_enter 109 = .ok (.invokevirtual 206, 3) := dk_182 0 206 (dk_at dksX1_enter_4 18 rfl rfl)
theorem dX1_enter_112 : decode cX1_enter 112 = .ok (.iconst 1, 1) := dk_4 (dk_at dksX1_enter_4 21 rfl rfl)
theorem dX1_enter_113 : decode cX1_enter 113 = .ok (.if_icmp .ne 6, 3) := dk_160 0 6 (dk_at dksX1_enter_5 0 rfl rfl)
theorem dX1_enter_116 : decode cX1_enter 116 = .ok (.iload 4, 2) := dk_21 4 (dk_at dksX1_enter_5 3 rfl rfl)
theorem dX1_enter_118 : decode cX1_enter 118 = .ok (.ireturn, 1) := dk_172 (dk_at dksX1_enter_5 5 rfl rfl)
theorem dX1_enter_119 : decode cX1_enter 119 = .ok (.iinc 5 1, 3) := dk_132 5 1 (dk_at dksX1_enter_5 6 rfl rfl)
theorem dX1_enter_122 : decode cX1_enter 122 = .ok (.goto (-81), 3) := dk_167 255 175 (dk_at dksX1_enter_5 9 rfl rfl)
theorem dX1_enter_125 : decode cX1_enter 125 = .ok (.iinc 4 1, 3) := dk_132 4 1 (dk_at dksX1_enter_5 12 rfl rfl)
theorem dX1_enter_128 : decode cX1_enter 128 = .ok (.goto (-99), 3) := dk_167 255 157 (dk_at dksX1_enter_5 15 rfl rfl)
theorem dX1_enter_131 : decode cX1_enter 131 = .ok (.iconst (-1), 1) := dk_2 (dk_at dksX1_enter_5 18 rfl rfl)
theorem dX1_enter_132 : decode cX1_enter 132 = .ok (.ireturn, 1) := dk_172 (dk_at dksX1_enter_5 19 rfl rfl)
abbrev cX1_put : ByteArray := prog_1_method_28_code
def yX1_put : MethodName := ⟨RX1, "put", "(III)I"⟩
def dkwX1_put_3 : List UInt8 := [21, 4, 172]
abbrev dktX1_put_3 : List UInt8 := dkwX1_put_3 ++ []
def dkwX1_put_2 : List UInt8 := [180, 0, 71, 27, 28, 29, 182, 0, 224, 54, 4, 42, 180, 0, 71, 27, 28, 133, 29, 133, 182, 0, 236]
abbrev dktX1_put_2 : List UInt8 := dkwX1_put_2 ++ dktX1_put_3
def dkwX1_put_1 : List UInt8 := [17, 3, 231, 29, 184, 0, 87, 42, 180, 0, 71, 42, 180, 0, 71, 182, 0, 228, 182, 0, 232, 42]
abbrev dktX1_put_1 : List UInt8 := dkwX1_put_1 ++ dktX1_put_2
def dkwX1_put_0 : List UInt8 := [27, 42, 180, 0, 71, 180, 0, 117, 184, 0, 25, 17, 252, 25, 17, 3, 231, 28, 184, 0, 87, 17, 252, 25]
abbrev dktX1_put_0 : List UInt8 := dkwX1_put_0 ++ dktX1_put_1
theorem dksX1_put_0 : cX1_put.data.toList.drop 0 = dktX1_put_0 := by decide +kernel
theorem dksX1_put_1 : cX1_put.data.toList.drop 24 = dktX1_put_1 := dk_seg dksX1_put_0 24 rfl rfl
theorem dksX1_put_2 : cX1_put.data.toList.drop 46 = dktX1_put_2 := dk_seg dksX1_put_1 22 rfl rfl
theorem dksX1_put_3 : cX1_put.data.toList.drop 69 = dktX1_put_3 := dk_seg dksX1_put_2 23 rfl rfl
theorem dX1_put_0 : decode cX1_put 0 = .ok (.iload_n 1, 1) := dk_27 (dk_at dksX1_put_0 0 rfl rfl)
theorem dX1_put_1 : decode cX1_put 1 = .ok (.aload_n 0, 1) := dk_42 (dk_at dksX1_put_0 1 rfl rfl)
theorem dX1_put_2 : decode cX1_put 2 = .ok (.getfield 71, 3) := dk_180 0 71 (dk_at dksX1_put_0 2 rfl rfl)
theorem dX1_put_5 : decode cX1_put 5 = .ok (.getfield 117, 3) := dk_180 0 117 (dk_at dksX1_put_0 5 rfl rfl)
theorem dX1_put_8 : decode cX1_put 8 = .ok (.invokestatic 25, 3) := dk_184 0 25 (dk_at dksX1_put_0 8 rfl rfl)
theorem dX1_put_11 : decode cX1_put 11 = .ok (.sipush (-999), 3) := dk_17 252 25 (dk_at dksX1_put_0 11 rfl rfl)
theorem dX1_put_14 : decode cX1_put 14 = .ok (.sipush 999, 3) := dk_17 3 231 (dk_at dksX1_put_0 14 rfl rfl)
theorem dX1_put_17 : decode cX1_put 17 = .ok (.iload_n 2, 1) := dk_28 (dk_at dksX1_put_0 17 rfl rfl)
theorem dX1_put_18 : decode cX1_put 18 = .ok (.invokestatic 87, 3) := dk_184 0 87 (dk_at dksX1_put_0 18 rfl rfl)
theorem dX1_put_21 : decode cX1_put 21 = .ok (.sipush (-999), 3) := dk_17 252 25 (dk_at dksX1_put_0 21 rfl rfl)
theorem dX1_put_24 : decode cX1_put 24 = .ok (.sipush 999, 3) := dk_17 3 231 (dk_at dksX1_put_1 0 rfl rfl)
theorem dX1_put_27 : decode cX1_put 27 = .ok (.iload_n 3, 1) := dk_29 (dk_at dksX1_put_1 3 rfl rfl)
theorem dX1_put_28 : decode cX1_put 28 = .ok (.invokestatic 87, 3) := dk_184 0 87 (dk_at dksX1_put_1 4 rfl rfl)
theorem dX1_put_31 : decode cX1_put 31 = .ok (.aload_n 0, 1) := dk_42 (dk_at dksX1_put_1 7 rfl rfl)
theorem dX1_put_32 : decode cX1_put 32 = .ok (.getfield 71, 3) := dk_180 0 71 (dk_at dksX1_put_1 8 rfl rfl)
theorem dX1_put_35 : decode cX1_put 35 = .ok (.aload_n 0, 1) := dk_42 (dk_at dksX1_put_1 11 rfl rfl)
theorem dX1_put_36 : decode cX1_put 36 = .ok (.getfield 71, 3) := dk_180 0 71 (dk_at dksX1_put_1 12 rfl rfl)
theorem dX1_put_39 : decode cX1_put 39 = .ok (.invokevirtual 228, 3) := dk_182 0 228 (dk_at dksX1_put_1 15 rfl rfl)
theorem dX1_put_42 : decode cX1_put 42 = .ok (.invokevirtual 232, 3) := dk_182 0 232 (dk_at dksX1_put_1 18 rfl rfl)
theorem dX1_put_45 : decode cX1_put 45 = .ok (.aload_n 0, 1) := dk_42 (dk_at dksX1_put_1 21 rfl rfl)
theorem dX1_put_46 : decode cX1_put 46 = .ok (.getfield 71, 3) := dk_180 0 71 (dk_at dksX1_put_2 0 rfl rfl)
theorem dX1_put_49 : decode cX1_put 49 = .ok (.iload_n 1, 1) := dk_27 (dk_at dksX1_put_2 3 rfl rfl)
theorem dX1_put_50 : decode cX1_put 50 = .ok (.iload_n 2, 1) := dk_28 (dk_at dksX1_put_2 4 rfl rfl)
theorem dX1_put_51 : decode cX1_put 51 = .ok (.iload_n 3, 1) := dk_29 (dk_at dksX1_put_2 5 rfl rfl)
theorem dX1_put_52 : decode cX1_put 52 = .ok (.invokevirtual 224, 3) := dk_182 0 224 (dk_at dksX1_put_2 6 rfl rfl)
theorem dX1_put_55 : decode cX1_put 55 = .ok (.istore 4, 2) := dk_54 4 (dk_at dksX1_put_2 9 rfl rfl)
theorem dX1_put_57 : decode cX1_put 57 = .ok (.aload_n 0, 1) := dk_42 (dk_at dksX1_put_2 11 rfl rfl)
theorem dX1_put_58 : decode cX1_put 58 = .ok (.getfield 71, 3) := dk_180 0 71 (dk_at dksX1_put_2 12 rfl rfl)
theorem dX1_put_61 : decode cX1_put 61 = .ok (.iload_n 1, 1) := dk_27 (dk_at dksX1_put_2 15 rfl rfl)
theorem dX1_put_62 : decode cX1_put 62 = .ok (.iload_n 2, 1) := dk_28 (dk_at dksX1_put_2 16 rfl rfl)
theorem dX1_put_63 : decode cX1_put 63 = .ok (.i2l, 1) := dk_133 (dk_at dksX1_put_2 17 rfl rfl)
theorem dX1_put_64 : decode cX1_put 64 = .ok (.iload_n 3, 1) := dk_29 (dk_at dksX1_put_2 18 rfl rfl)
theorem dX1_put_65 : decode cX1_put 65 = .ok (.i2l, 1) := dk_133 (dk_at dksX1_put_2 19 rfl rfl)
theorem dX1_put_66 : decode cX1_put 66 = .ok (.invokevirtual 236, 3) := dk_182 0 236 (dk_at dksX1_put_2 20 rfl rfl)
theorem dX1_put_69 : decode cX1_put 69 = .ok (.iload 4, 2) := dk_21 4 (dk_at dksX1_put_3 0 rfl rfl)
theorem dX1_put_71 : decode cX1_put 71 = .ok (.ireturn, 1) := dk_172 (dk_at dksX1_put_3 2 rfl rfl)
abbrev cX1_carry : ByteArray := prog_1_method_29_code
def yX1_carry : MethodName := ⟨RX1, "carry", "(I)Z"⟩
def dkwX1_carry_1 : List UInt8 := [27, 182, 0, 239, 62, 29, 153, 0, 11, 42, 180, 0, 71, 44, 182, 0, 232, 29, 172]
abbrev dktX1_carry_1 : List UInt8 := dkwX1_carry_1 ++ []
def dkwX1_carry_0 : List UInt8 := [42, 180, 0, 71, 180, 0, 127, 27, 184, 0, 199, 87, 42, 180, 0, 71, 182, 0, 228, 77, 42, 180, 0, 71]
abbrev dktX1_carry_0 : List UInt8 := dkwX1_carry_0 ++ dktX1_carry_1
theorem dksX1_carry_0 : cX1_carry.data.toList.drop 0 = dktX1_carry_0 := by decide +kernel
theorem dksX1_carry_1 : cX1_carry.data.toList.drop 24 = dktX1_carry_1 := dk_seg dksX1_carry_0 24 rfl rfl
theorem dX1_carry_0 : decode cX1_carry 0 = .ok (.aload_n 0, 1) := dk_42 (dk_at dksX1_carry_0 0 rfl rfl)
theorem dX1_carry_1 : decode cX1_carry 1 = .ok (.getfield 71, 3) := dk_180 0 71 (dk_at dksX1_carry_0 1 rfl rfl)
theorem dX1_carry_4 : decode cX1_carry 4 = .ok (.getfield 127, 3) := dk_180 0 127 (dk_at dksX1_carry_0 4 rfl rfl)
theorem dX1_carry_7 : decode cX1_carry 7 = .ok (.iload_n 1, 1) := dk_27 (dk_at dksX1_carry_0 7 rfl rfl)
theorem dX1_carry_8 : decode cX1_carry 8 = .ok (.invokestatic 199, 3) := dk_184 0 199 (dk_at dksX1_carry_0 8 rfl rfl)
theorem dX1_carry_11 : decode cX1_carry 11 = .ok (.pop, 1) := dk_87 (dk_at dksX1_carry_0 11 rfl rfl)
theorem dX1_carry_12 : decode cX1_carry 12 = .ok (.aload_n 0, 1) := dk_42 (dk_at dksX1_carry_0 12 rfl rfl)
theorem dX1_carry_13 : decode cX1_carry 13 = .ok (.getfield 71, 3) := dk_180 0 71 (dk_at dksX1_carry_0 13 rfl rfl)
theorem dX1_carry_16 : decode cX1_carry 16 = .ok (.invokevirtual 228, 3) := dk_182 0 228 (dk_at dksX1_carry_0 16 rfl rfl)
theorem dX1_carry_19 : decode cX1_carry 19 = .ok (.astore_n 2, 1) := dk_77 (dk_at dksX1_carry_0 19 rfl rfl)
theorem dX1_carry_20 : decode cX1_carry 20 = .ok (.aload_n 0, 1) := dk_42 (dk_at dksX1_carry_0 20 rfl rfl)
theorem dX1_carry_21 : decode cX1_carry 21 = .ok (.getfield 71, 3) := dk_180 0 71 (dk_at dksX1_carry_0 21 rfl rfl)
theorem dX1_carry_24 : decode cX1_carry 24 = .ok (.iload_n 1, 1) := dk_27 (dk_at dksX1_carry_1 0 rfl rfl)
theorem dX1_carry_25 : decode cX1_carry 25 = .ok (.invokevirtual 239, 3) := dk_182 0 239 (dk_at dksX1_carry_1 1 rfl rfl)
theorem dX1_carry_28 : decode cX1_carry 28 = .ok (.istore_n 3, 1) := dk_62 (dk_at dksX1_carry_1 4 rfl rfl)
theorem dX1_carry_29 : decode cX1_carry 29 = .ok (.iload_n 3, 1) := dk_29 (dk_at dksX1_carry_1 5 rfl rfl)
theorem dX1_carry_30 : decode cX1_carry 30 = .ok (.ifCond .eq 11, 3) := dk_153 0 11 (dk_at dksX1_carry_1 6 rfl rfl)
theorem dX1_carry_33 : decode cX1_carry 33 = .ok (.aload_n 0, 1) := dk_42 (dk_at dksX1_carry_1 9 rfl rfl)
theorem dX1_carry_34 : decode cX1_carry 34 = .ok (.getfield 71, 3) := dk_180 0 71 (dk_at dksX1_carry_1 10 rfl rfl)
theorem dX1_carry_37 : decode cX1_carry 37 = .ok (.aload_n 2, 1) := dk_44 (dk_at dksX1_carry_1 13 rfl rfl)
theorem dX1_carry_38 : decode cX1_carry 38 = .ok (.invokevirtual 232, 3) := dk_182 0 232 (dk_at dksX1_carry_1 14 rfl rfl)
theorem dX1_carry_41 : decode cX1_carry 41 = .ok (.iload_n 3, 1) := dk_29 (dk_at dksX1_carry_1 17 rfl rfl)
theorem dX1_carry_42 : decode cX1_carry 42 = .ok (.ireturn, 1) := dk_172 (dk_at dksX1_carry_1 18 rfl rfl)
abbrev cX1_undo : ByteArray := prog_1_method_31_code
def yX1_undo : MethodName := ⟨RX1, "undo", "()I"⟩
def dkwX1_undo_5 : List UInt8 := [132, 4, 1, 167, 255, 205, 29, 172]
abbrev dktX1_undo_5 : List UInt8 := dkwX1_undo_5 ++ []
def dkwX1_undo_4 : List UInt8 := [16, 16, 21, 4, 96, 46, 44, 16, 16, 21, 4, 96, 46, 159, 0, 7, 4, 167, 0, 4, 3, 96, 62]
abbrev dktX1_undo_4 : List UInt8 := dkwX1_undo_4 ++ dktX1_undo_5
def dkwX1_undo_3 : List UInt8 := [42, 180, 0, 71, 180, 0, 117, 162, 0, 45, 29, 43, 21, 4, 46, 44, 21, 4, 46, 160, 0, 20, 43]
abbrev dktX1_undo_3 : List UInt8 := dkwX1_undo_3 ++ dktX1_undo_4
def dkwX1_undo_2 : List UInt8 := [4, 100, 182, 0, 249, 192, 0, 252, 77, 42, 180, 0, 71, 44, 182, 0, 253, 3, 62, 3, 54, 4, 21, 4]
abbrev dktX1_undo_2 : List UInt8 := dkwX1_undo_2 ++ dktX1_undo_3
def dkwX1_undo_1 : List UInt8 := [180, 0, 71, 182, 0, 228, 76, 42, 180, 0, 71, 180, 0, 134, 42, 180, 0, 71, 180, 0, 134, 182, 0, 124]
abbrev dktX1_undo_1 : List UInt8 := dkwX1_undo_1 ++ dktX1_undo_2
def dkwX1_undo_0 : List UInt8 := [42, 180, 0, 71, 180, 0, 134, 182, 0, 246, 154, 0, 7, 4, 167, 0, 4, 3, 184, 0, 80, 42]
abbrev dktX1_undo_0 : List UInt8 := dkwX1_undo_0 ++ dktX1_undo_1
theorem dksX1_undo_0 : cX1_undo.data.toList.drop 0 = dktX1_undo_0 := by decide +kernel
theorem dksX1_undo_1 : cX1_undo.data.toList.drop 22 = dktX1_undo_1 := dk_seg dksX1_undo_0 22 rfl rfl
theorem dksX1_undo_2 : cX1_undo.data.toList.drop 46 = dktX1_undo_2 := dk_seg dksX1_undo_1 24 rfl rfl
theorem dksX1_undo_3 : cX1_undo.data.toList.drop 70 = dktX1_undo_3 := dk_seg dksX1_undo_2 24 rfl rfl
theorem dksX1_undo_4 : cX1_undo.data.toList.drop 93 = dktX1_undo_4 := dk_seg dksX1_undo_3 23 rfl rfl
theorem dksX1_undo_5 : cX1_undo.data.toList.drop 116 = dktX1_undo_5 := dk_seg dksX1_undo_4 23 rfl rfl
theorem dX1_undo_0 : decode cX1_undo 0 = .ok (.aload_n 0, 1) := dk_42 (dk_at dksX1_undo_0 0 rfl rfl)
theorem dX1_undo_1 : decode cX1_undo 1 = .ok (.getfield 71, 3) := dk_180 0 71 (dk_at dksX1_undo_0 1 rfl rfl)
theorem dX1_undo_4 : decode cX1_undo 4 = .ok (.getfield 134, 3) := dk_180 0 134 (dk_at dksX1_undo_0 4 rfl rfl)
theorem dX1_undo_7 : decode cX1_undo 7 = .ok (.invokevirtual 246, 3) := dk_182 0 246 (dk_at dksX1_undo_0 7 rfl rfl)
theorem dX1_undo_10 : decode cX1_undo 10 = .ok (.ifCond .ne 7, 3) := dk_154 0 7 (dk_at dksX1_undo_0 10 rfl rfl)
theorem dX1_undo_13 : decode cX1_undo 13 = .ok (.iconst 1, 1) := dk_4 (dk_at dksX1_undo_0 13 rfl rfl)
theorem dX1_undo_14 : decode cX1_undo 14 = .ok (.goto 4, 3) := dk_167 0 4 (dk_at dksX1_undo_0 14 rfl rfl)
theorem dX1_undo_17 : decode cX1_undo 17 = .ok (.iconst 0, 1) := dk_3 (dk_at dksX1_undo_0 17 rfl rfl)
theorem dX1_undo_18 : decode cX1_undo 18 = .ok (.invokestatic 80, 3) := dk_184 0 80 (dk_at dksX1_undo_0 18 rfl rfl)
theorem dX1_undo_21 : decode cX1_undo 21 = .ok (.aload_n 0, 1) := dk_42 (dk_at dksX1_undo_0 21 rfl rfl)
theorem dX1_undo_22 : decode cX1_undo 22 = .ok (.getfield 71, 3) := dk_180 0 71 (dk_at dksX1_undo_1 0 rfl rfl)
theorem dX1_undo_25 : decode cX1_undo 25 = .ok (.invokevirtual 228, 3) := dk_182 0 228 (dk_at dksX1_undo_1 3 rfl rfl)
theorem dX1_undo_28 : decode cX1_undo 28 = .ok (.astore_n 1, 1) := dk_76 (dk_at dksX1_undo_1 6 rfl rfl)
theorem dX1_undo_29 : decode cX1_undo 29 = .ok (.aload_n 0, 1) := dk_42 (dk_at dksX1_undo_1 7 rfl rfl)
theorem dX1_undo_30 : decode cX1_undo 30 = .ok (.getfield 71, 3) := dk_180 0 71 (dk_at dksX1_undo_1 8 rfl rfl)
theorem dX1_undo_33 : decode cX1_undo 33 = .ok (.getfield 134, 3) := dk_180 0 134 (dk_at dksX1_undo_1 11 rfl rfl)
theorem dX1_undo_36 : decode cX1_undo 36 = .ok (.aload_n 0, 1) := dk_42 (dk_at dksX1_undo_1 14 rfl rfl)
theorem dX1_undo_37 : decode cX1_undo 37 = .ok (.getfield 71, 3) := dk_180 0 71 (dk_at dksX1_undo_1 15 rfl rfl)
theorem dX1_undo_40 : decode cX1_undo 40 = .ok (.getfield 134, 3) := dk_180 0 134 (dk_at dksX1_undo_1 18 rfl rfl)
theorem dX1_undo_43 : decode cX1_undo 43 = .ok (.invokevirtual 124, 3) := dk_182 0 124 (dk_at dksX1_undo_1 21 rfl rfl)
theorem dX1_undo_46 : decode cX1_undo 46 = .ok (.iconst 1, 1) := dk_4 (dk_at dksX1_undo_2 0 rfl rfl)
theorem dX1_undo_47 : decode cX1_undo 47 = .ok (.isub, 1) := dk_100 (dk_at dksX1_undo_2 1 rfl rfl)
theorem dX1_undo_48 : decode cX1_undo 48 = .ok (.invokevirtual 249, 3) := dk_182 0 249 (dk_at dksX1_undo_2 2 rfl rfl)
theorem dX1_undo_51 : decode cX1_undo 51 = .ok (.checkcast 252, 3) := dk_192 0 252 (dk_at dksX1_undo_2 5 rfl rfl)
theorem dX1_undo_54 : decode cX1_undo 54 = .ok (.astore_n 2, 1) := dk_77 (dk_at dksX1_undo_2 8 rfl rfl)
theorem dX1_undo_55 : decode cX1_undo 55 = .ok (.aload_n 0, 1) := dk_42 (dk_at dksX1_undo_2 9 rfl rfl)
theorem dX1_undo_56 : decode cX1_undo 56 = .ok (.getfield 71, 3) := dk_180 0 71 (dk_at dksX1_undo_2 10 rfl rfl)
theorem dX1_undo_59 : decode cX1_undo 59 = .ok (.aload_n 2, 1) := dk_44 (dk_at dksX1_undo_2 13 rfl rfl)
theorem dX1_undo_60 : decode cX1_undo 60 = .ok (.invokevirtual 253, 3) := dk_182 0 253 (dk_at dksX1_undo_2 14 rfl rfl)
theorem dX1_undo_63 : decode cX1_undo 63 = .ok (.iconst 0, 1) := dk_3 (dk_at dksX1_undo_2 17 rfl rfl)
theorem dX1_undo_64 : decode cX1_undo 64 = .ok (.istore_n 3, 1) := dk_62 (dk_at dksX1_undo_2 18 rfl rfl)
theorem dX1_undo_65 : decode cX1_undo 65 = .ok (.iconst 0, 1) := dk_3 (dk_at dksX1_undo_2 19 rfl rfl)
theorem dX1_undo_66 : decode cX1_undo 66 = .ok (.istore 4, 2) := dk_54 4 (dk_at dksX1_undo_2 20 rfl rfl)
theorem dX1_undo_68 : decode cX1_undo 68 = .ok (.iload 4, 2) := dk_21 4 (dk_at dksX1_undo_2 22 rfl rfl)
theorem dX1_undo_70 : decode cX1_undo 70 = .ok (.aload_n 0, 1) := dk_42 (dk_at dksX1_undo_3 0 rfl rfl)
theorem dX1_undo_71 : decode cX1_undo 71 = .ok (.getfield 71, 3) := dk_180 0 71 (dk_at dksX1_undo_3 1 rfl rfl)
theorem dX1_undo_74 : decode cX1_undo 74 = .ok (.getfield 117, 3) := dk_180 0 117 (dk_at dksX1_undo_3 4 rfl rfl)
theorem dX1_undo_77 : decode cX1_undo 77 = .ok (.if_icmp .ge 45, 3) := dk_162 0 45 (dk_at dksX1_undo_3 7 rfl rfl)
theorem dX1_undo_80 : decode cX1_undo 80 = .ok (.iload_n 3, 1) := dk_29 (dk_at dksX1_undo_3 10 rfl rfl)
theorem dX1_undo_81 : decode cX1_undo 81 = .ok (.aload_n 1, 1) := dk_43 (dk_at dksX1_undo_3 11 rfl rfl)
theorem dX1_undo_82 : decode cX1_undo 82 = .ok (.iload 4, 2) := dk_21 4 (dk_at dksX1_undo_3 12 rfl rfl)
theorem dX1_undo_84 : decode cX1_undo 84 = .ok (.iaload, 1) := dk_46 (dk_at dksX1_undo_3 14 rfl rfl)
theorem dX1_undo_85 : decode cX1_undo 85 = .ok (.aload_n 2, 1) := dk_44 (dk_at dksX1_undo_3 15 rfl rfl)
theorem dX1_undo_86 : decode cX1_undo 86 = .ok (.iload 4, 2) := dk_21 4 (dk_at dksX1_undo_3 16 rfl rfl)
theorem dX1_undo_88 : decode cX1_undo 88 = .ok (.iaload, 1) := dk_46 (dk_at dksX1_undo_3 18 rfl rfl)
theorem dX1_undo_89 : decode cX1_undo 89 = .ok (.if_icmp .ne 20, 3) := dk_160 0 20 (dk_at dksX1_undo_3 19 rfl rfl)
theorem dX1_undo_92 : decode cX1_undo 92 = .ok (.aload_n 1, 1) := dk_43 (dk_at dksX1_undo_3 22 rfl rfl)
theorem dX1_undo_93 : decode cX1_undo 93 = .ok (.bipush 16, 2) := dk_16 16 (dk_at dksX1_undo_4 0 rfl rfl)
theorem dX1_undo_95 : decode cX1_undo 95 = .ok (.iload 4, 2) := dk_21 4 (dk_at dksX1_undo_4 2 rfl rfl)
theorem dX1_undo_97 : decode cX1_undo 97 = .ok (.iadd, 1) := dk_96 (dk_at dksX1_undo_4 4 rfl rfl)
theorem dX1_undo_98 : decode cX1_undo 98 = .ok (.iaload, 1) := dk_46 (dk_at dksX1_undo_4 5 rfl rfl)
theorem dX1_undo_99 : decode cX1_undo 99 = .ok (.aload_n 2, 1) := dk_44 (dk_at dksX1_undo_4 6 rfl rfl)
theorem dX1_undo_100 : decode cX1_undo 100 = .ok (.bipush 16, 2) := dk_16 16 (dk_at dksX1_undo_4 7 rfl rfl)
theorem dX1_undo_102 : decode cX1_undo 102 = .ok (.iload 4, 2) := dk_21 4 (dk_at dksX1_undo_4 9 rfl rfl)
theorem dX1_undo_104 : decode cX1_undo 104 = .ok (.iadd, 1) := dk_96 (dk_at dksX1_undo_4 11 rfl rfl)
theorem dX1_undo_105 : decode cX1_undo 105 = .ok (.iaload, 1) := dk_46 (dk_at dksX1_undo_4 12 rfl rfl)
theorem dX1_undo_106 : decode cX1_undo 106 = .ok (.if_icmp .eq 7, 3) := dk_159 0 7 (dk_at dksX1_undo_4 13 rfl rfl)
theorem dX1_undo_109 : decode cX1_undo 109 = .ok (.iconst 1, 1) := dk_4 (dk_at dksX1_undo_4 16 rfl rfl)
theorem dX1_undo_110 : decode cX1_undo 110 = .ok (.goto 4, 3) := dk_167 0 4 (dk_at dksX1_undo_4 17 rfl rfl)
theorem dX1_undo_113 : decode cX1_undo 113 = .ok (.iconst 0, 1) := dk_3 (dk_at dksX1_undo_4 20 rfl rfl)
theorem dX1_undo_114 : decode cX1_undo 114 = .ok (.iadd, 1) := dk_96 (dk_at dksX1_undo_4 21 rfl rfl)
theorem dX1_undo_115 : decode cX1_undo 115 = .ok (.istore_n 3, 1) := dk_62 (dk_at dksX1_undo_4 22 rfl rfl)
theorem dX1_undo_116 : decode cX1_undo 116 = .ok (.iinc 4 1, 3) := dk_132 4 1 (dk_at dksX1_undo_5 0 rfl rfl)
theorem dX1_undo_119 : decode cX1_undo 119 = .ok (.goto (-51), 3) := dk_167 255 205 (dk_at dksX1_undo_5 3 rfl rfl)
theorem dX1_undo_122 : decode cX1_undo 122 = .ok (.iload_n 3, 1) := dk_29 (dk_at dksX1_undo_5 6 rfl rfl)
theorem dX1_undo_123 : decode cX1_undo 123 = .ok (.ireturn, 1) := dk_172 (dk_at dksX1_undo_5 7 rfl rfl)
abbrev cX1_step : ByteArray := prog_1_method_33_code
def yX1_step : MethodName := ⟨RX1, "step", "(II)I"⟩
def dkwX1_step_0 : List UInt8 := [42, 180, 0, 71, 180, 0, 127, 27, 184, 0, 199, 87, 28, 8, 184, 0, 25, 42, 27, 28, 182, 1, 28, 172]
abbrev dktX1_step_0 : List UInt8 := dkwX1_step_0 ++ []
theorem dksX1_step_0 : cX1_step.data.toList.drop 0 = dktX1_step_0 := by decide +kernel
theorem dX1_step_0 : decode cX1_step 0 = .ok (.aload_n 0, 1) := dk_42 (dk_at dksX1_step_0 0 rfl rfl)
theorem dX1_step_1 : decode cX1_step 1 = .ok (.getfield 71, 3) := dk_180 0 71 (dk_at dksX1_step_0 1 rfl rfl)
theorem dX1_step_4 : decode cX1_step 4 = .ok (.getfield 127, 3) := dk_180 0 127 (dk_at dksX1_step_0 4 rfl rfl)
theorem dX1_step_7 : decode cX1_step 7 = .ok (.iload_n 1, 1) := dk_27 (dk_at dksX1_step_0 7 rfl rfl)
theorem dX1_step_8 : decode cX1_step 8 = .ok (.invokestatic 199, 3) := dk_184 0 199 (dk_at dksX1_step_0 8 rfl rfl)
theorem dX1_step_11 : decode cX1_step 11 = .ok (.pop, 1) := dk_87 (dk_at dksX1_step_0 11 rfl rfl)
theorem dX1_step_12 : decode cX1_step 12 = .ok (.iload_n 2, 1) := dk_28 (dk_at dksX1_step_0 12 rfl rfl)
theorem dX1_step_13 : decode cX1_step 13 = .ok (.iconst 5, 1) := dk_8 (dk_at dksX1_step_0 13 rfl rfl)
theorem dX1_step_14 : decode cX1_step 14 = .ok (.invokestatic 25, 3) := dk_184 0 25 (dk_at dksX1_step_0 14 rfl rfl)
theorem dX1_step_17 : decode cX1_step 17 = .ok (.aload_n 0, 1) := dk_42 (dk_at dksX1_step_0 17 rfl rfl)
theorem dX1_step_18 : decode cX1_step 18 = .ok (.iload_n 1, 1) := dk_27 (dk_at dksX1_step_0 18 rfl rfl)
theorem dX1_step_19 : decode cX1_step 19 = .ok (.iload_n 2, 1) := dk_28 (dk_at dksX1_step_0 19 rfl rfl)
theorem dX1_step_20 : decode cX1_step 20 = .ok (.invokevirtual 284, 3) := dk_182 1 28 (dk_at dksX1_step_0 20 rfl rfl)
theorem dX1_step_23 : decode cX1_step 23 = .ok (.ireturn, 1) := dk_172 (dk_at dksX1_step_0 23 rfl rfl)
abbrev cX1_would : ByteArray := prog_1_method_34_code
def yX1_would : MethodName := ⟨RX1, "would", "(I)I"⟩
def dkwX1_would_3 : List UInt8 := [182, 0, 143, 172]
abbrev dktX1_would_3 : List UInt8 := dkwX1_would_3 ++ []
def dkwX1_would_2 : List UInt8 := [167, 0, 26, 27, 16, 6, 160, 0, 13, 42, 180, 0, 75, 182, 0, 140, 167, 0, 10, 42, 180, 0, 75]
abbrev dktX1_would_2 : List UInt8 := dkwX1_would_2 ++ dktX1_would_3
def dkwX1_would_1 : List UInt8 := [182, 0, 243, 61, 27, 154, 0, 7, 28, 167, 0, 41, 27, 8, 160, 0, 13, 42, 180, 0, 75, 182, 0, 137]
abbrev dktX1_would_1 : List UInt8 := dkwX1_would_1 ++ dktX1_would_2
def dkwX1_would_0 : List UInt8 := [27, 153, 0, 10, 27, 8, 100, 6, 184, 0, 25, 42, 180, 0, 75, 42, 180, 0, 71, 182, 1, 31]
abbrev dktX1_would_0 : List UInt8 := dkwX1_would_0 ++ dktX1_would_1
theorem dksX1_would_0 : cX1_would.data.toList.drop 0 = dktX1_would_0 := by decide +kernel
theorem dksX1_would_1 : cX1_would.data.toList.drop 22 = dktX1_would_1 := dk_seg dksX1_would_0 22 rfl rfl
theorem dksX1_would_2 : cX1_would.data.toList.drop 46 = dktX1_would_2 := dk_seg dksX1_would_1 24 rfl rfl
theorem dksX1_would_3 : cX1_would.data.toList.drop 69 = dktX1_would_3 := dk_seg dksX1_would_2 23 rfl rfl
theorem dX1_would_0 : decode cX1_would 0 = .ok (.iload_n 1, 1) := dk_27 (dk_at dksX1_would_0 0 rfl rfl)
theorem dX1_would_1 : decode cX1_would 1 = .ok (.ifCond .eq 10, 3) := dk_153 0 10 (dk_at dksX1_would_0 1 rfl rfl)
theorem dX1_would_4 : decode cX1_would 4 = .ok (.iload_n 1, 1) := dk_27 (dk_at dksX1_would_0 4 rfl rfl)
theorem dX1_would_5 : decode cX1_would 5 = .ok (.iconst 5, 1) := dk_8 (dk_at dksX1_would_0 5 rfl rfl)
theorem dX1_would_6 : decode cX1_would 6 = .ok (.isub, 1) := dk_100 (dk_at dksX1_would_0 6 rfl rfl)
theorem dX1_would_7 : decode cX1_would 7 = .ok (.iconst 3, 1) := dk_6 (dk_at dksX1_would_0 7 rfl rfl)
theorem dX1_would_8 : decode cX1_would 8 = .ok (.invokestatic 25, 3) := dk_184 0 25 (dk_at dksX1_would_0 8 rfl rfl)
theorem dX1_would_11 : decode cX1_would 11 = .ok (.aload_n 0, 1) := dk_42 (dk_at dksX1_would_0 11 rfl rfl)
theorem dX1_would_12 : decode cX1_would 12 = .ok (.getfield 75, 3) := dk_180 0 75 (dk_at dksX1_would_0 12 rfl rfl)
theorem dX1_would_15 : decode cX1_would 15 = .ok (.aload_n 0, 1) := dk_42 (dk_at dksX1_would_0 15 rfl rfl)
theorem dX1_would_16 : decode cX1_would 16 = .ok (.getfield 71, 3) := dk_180 0 71 (dk_at dksX1_would_0 16 rfl rfl)
theorem dX1_would_19 : decode cX1_would 19 = .ok (.invokevirtual 287, 3) := dk_182 1 31 (dk_at dksX1_would_0 19 rfl rfl)
theorem dX1_would_22 : decode cX1_would 22 = .ok (.invokevirtual 243, 3) := dk_182 0 243 (dk_at dksX1_would_1 0 rfl rfl)
theorem dX1_would_25 : decode cX1_would 25 = .ok (.istore_n 2, 1) := dk_61 (dk_at dksX1_would_1 3 rfl rfl)
theorem dX1_would_26 : decode cX1_would 26 = .ok (.iload_n 1, 1) := dk_27 (dk_at dksX1_would_1 4 rfl rfl)
theorem dX1_would_27 : decode cX1_would 27 = .ok (.ifCond .ne 7, 3) := dk_154 0 7 (dk_at dksX1_would_1 5 rfl rfl)
theorem dX1_would_30 : decode cX1_would 30 = .ok (.iload_n 2, 1) := dk_28 (dk_at dksX1_would_1 8 rfl rfl)
theorem dX1_would_31 : decode cX1_would 31 = .ok (.goto 41, 3) := dk_167 0 41 (dk_at dksX1_would_1 9 rfl rfl)
theorem dX1_would_34 : decode cX1_would 34 = .ok (.iload_n 1, 1) := dk_27 (dk_at dksX1_would_1 12 rfl rfl)
theorem dX1_would_35 : decode cX1_would 35 = .ok (.iconst 5, 1) := dk_8 (dk_at dksX1_would_1 13 rfl rfl)
theorem dX1_would_36 : decode cX1_would 36 = .ok (.if_icmp .ne 13, 3) := dk_160 0 13 (dk_at dksX1_would_1 14 rfl rfl)
theorem dX1_would_39 : decode cX1_would 39 = .ok (.aload_n 0, 1) := dk_42 (dk_at dksX1_would_1 17 rfl rfl)
theorem dX1_would_40 : decode cX1_would 40 = .ok (.getfield 75, 3) := dk_180 0 75 (dk_at dksX1_would_1 18 rfl rfl)
theorem dX1_would_43 : decode cX1_would 43 = .ok (.invokevirtual 137, 3) := dk_182 0 137 (dk_at dksX1_would_1 21 rfl rfl)
theorem dX1_would_46 : decode cX1_would 46 = .ok (.goto 26, 3) := dk_167 0 26 (dk_at dksX1_would_2 0 rfl rfl)
theorem dX1_would_49 : decode cX1_would 49 = .ok (.iload_n 1, 1) := dk_27 (dk_at dksX1_would_2 3 rfl rfl)
theorem dX1_would_50 : decode cX1_would 50 = .ok (.bipush 6, 2) := dk_16 6 (dk_at dksX1_would_2 4 rfl rfl)
theorem dX1_would_52 : decode cX1_would 52 = .ok (.if_icmp .ne 13, 3) := dk_160 0 13 (dk_at dksX1_would_2 6 rfl rfl)
theorem dX1_would_55 : decode cX1_would 55 = .ok (.aload_n 0, 1) := dk_42 (dk_at dksX1_would_2 9 rfl rfl)
theorem dX1_would_56 : decode cX1_would 56 = .ok (.getfield 75, 3) := dk_180 0 75 (dk_at dksX1_would_2 10 rfl rfl)
theorem dX1_would_59 : decode cX1_would 59 = .ok (.invokevirtual 140, 3) := dk_182 0 140 (dk_at dksX1_would_2 13 rfl rfl)
theorem dX1_would_62 : decode cX1_would 62 = .ok (.goto 10, 3) := dk_167 0 10 (dk_at dksX1_would_2 16 rfl rfl)
theorem dX1_would_65 : decode cX1_would 65 = .ok (.aload_n 0, 1) := dk_42 (dk_at dksX1_would_2 19 rfl rfl)
theorem dX1_would_66 : decode cX1_would 66 = .ok (.getfield 75, 3) := dk_180 0 75 (dk_at dksX1_would_2 20 rfl rfl)
theorem dX1_would_69 : decode cX1_would 69 = .ok (.invokevirtual 143, 3) := dk_182 0 143 (dk_at dksX1_would_3 0 rfl rfl)
theorem dX1_would_72 : decode cX1_would 72 = .ok (.ireturn, 1) := dk_172 (dk_at dksX1_would_3 3 rfl rfl)
abbrev cX1_without : ByteArray := prog_1_method_35_code
def yX1_without : MethodName := ⟨RX1, "without", "(I)I"⟩
def dkwX1_without_2 : List UInt8 := [180, 0, 75, 28, 182, 0, 239, 87, 132, 2, 1, 167, 255, 225, 42, 180, 0, 75, 182, 0, 137, 172]
abbrev dktX1_without_2 : List UInt8 := dkwX1_without_2 ++ []
def dkwX1_without_1 : List UInt8 := [3, 61, 28, 42, 180, 0, 75, 180, 0, 127, 182, 0, 124, 162, 0, 23, 28, 27, 159, 0, 12, 42]
abbrev dktX1_without_1 : List UInt8 := dkwX1_without_1 ++ dktX1_without_2
def dkwX1_without_0 : List UInt8 := [42, 180, 0, 71, 180, 0, 127, 27, 184, 0, 199, 87, 42, 180, 0, 75, 42, 180, 0, 71, 182, 1, 31, 87]
abbrev dktX1_without_0 : List UInt8 := dkwX1_without_0 ++ dktX1_without_1
theorem dksX1_without_0 : cX1_without.data.toList.drop 0 = dktX1_without_0 := by decide +kernel
theorem dksX1_without_1 : cX1_without.data.toList.drop 24 = dktX1_without_1 := dk_seg dksX1_without_0 24 rfl rfl
theorem dksX1_without_2 : cX1_without.data.toList.drop 46 = dktX1_without_2 := dk_seg dksX1_without_1 22 rfl rfl
theorem dX1_without_0 : decode cX1_without 0 = .ok (.aload_n 0, 1) := dk_42 (dk_at dksX1_without_0 0 rfl rfl)
theorem dX1_without_1 : decode cX1_without 1 = .ok (.getfield 71, 3) := dk_180 0 71 (dk_at dksX1_without_0 1 rfl rfl)
theorem dX1_without_4 : decode cX1_without 4 = .ok (.getfield 127, 3) := dk_180 0 127 (dk_at dksX1_without_0 4 rfl rfl)
theorem dX1_without_7 : decode cX1_without 7 = .ok (.iload_n 1, 1) := dk_27 (dk_at dksX1_without_0 7 rfl rfl)
theorem dX1_without_8 : decode cX1_without 8 = .ok (.invokestatic 199, 3) := dk_184 0 199 (dk_at dksX1_without_0 8 rfl rfl)
theorem dX1_without_11 : decode cX1_without 11 = .ok (.pop, 1) := dk_87 (dk_at dksX1_without_0 11 rfl rfl)
theorem dX1_without_12 : decode cX1_without 12 = .ok (.aload_n 0, 1) := dk_42 (dk_at dksX1_without_0 12 rfl rfl)
theorem dX1_without_13 : decode cX1_without 13 = .ok (.getfield 75, 3) := dk_180 0 75 (dk_at dksX1_without_0 13 rfl rfl)
theorem dX1_without_16 : decode cX1_without 16 = .ok (.aload_n 0, 1) := dk_42 (dk_at dksX1_without_0 16 rfl rfl)
theorem dX1_without_17 : decode cX1_without 17 = .ok (.getfield 71, 3) := dk_180 0 71 (dk_at dksX1_without_0 17 rfl rfl)
theorem dX1_without_20 : decode cX1_without 20 = .ok (.invokevirtual 287, 3) := dk_182 1 31 (dk_at dksX1_without_0 20 rfl rfl)
theorem dX1_without_23 : decode cX1_without 23 = .ok (.pop, 1) := dk_87 (dk_at dksX1_without_0 23 rfl rfl)
theorem dX1_without_24 : decode cX1_without 24 = .ok (.iconst 0, 1) := dk_3 (dk_at dksX1_without_1 0 rfl rfl)
theorem dX1_without_25 : decode cX1_without 25 = .ok (.istore_n 2, 1) := dk_61 (dk_at dksX1_without_1 1 rfl rfl)
theorem dX1_without_26 : decode cX1_without 26 = .ok (.iload_n 2, 1) := dk_28 (dk_at dksX1_without_1 2 rfl rfl)
theorem dX1_without_27 : decode cX1_without 27 = .ok (.aload_n 0, 1) := dk_42 (dk_at dksX1_without_1 3 rfl rfl)
theorem dX1_without_28 : decode cX1_without 28 = .ok (.getfield 75, 3) := dk_180 0 75 (dk_at dksX1_without_1 4 rfl rfl)
theorem dX1_without_31 : decode cX1_without 31 = .ok (.getfield 127, 3) := dk_180 0 127 (dk_at dksX1_without_1 7 rfl rfl)
theorem dX1_without_34 : decode cX1_without 34 = .ok (.invokevirtual 124, 3) := dk_182 0 124 (dk_at dksX1_without_1 10 rfl rfl)
theorem dX1_without_37 : decode cX1_without 37 = .ok (.if_icmp .ge 23, 3) := dk_162 0 23 (dk_at dksX1_without_1 13 rfl rfl)
theorem dX1_without_40 : decode cX1_without 40 = .ok (.iload_n 2, 1) := dk_28 (dk_at dksX1_without_1 16 rfl rfl)
theorem dX1_without_41 : decode cX1_without 41 = .ok (.iload_n 1, 1) := dk_27 (dk_at dksX1_without_1 17 rfl rfl)
theorem dX1_without_42 : decode cX1_without 42 = .ok (.if_icmp .eq 12, 3) := dk_159 0 12 (dk_at dksX1_without_1 18 rfl rfl)
theorem dX1_without_45 : decode cX1_without 45 = .ok (.aload_n 0, 1) := dk_42 (dk_at dksX1_without_1 21 rfl rfl)
theorem dX1_without_46 : decode cX1_without 46 = .ok (.getfield 75, 3) := dk_180 0 75 (dk_at dksX1_without_2 0 rfl rfl)
theorem dX1_without_49 : decode cX1_without 49 = .ok (.iload_n 2, 1) := dk_28 (dk_at dksX1_without_2 3 rfl rfl)
theorem dX1_without_50 : decode cX1_without 50 = .ok (.invokevirtual 239, 3) := dk_182 0 239 (dk_at dksX1_without_2 4 rfl rfl)
theorem dX1_without_53 : decode cX1_without 53 = .ok (.pop, 1) := dk_87 (dk_at dksX1_without_2 7 rfl rfl)
theorem dX1_without_54 : decode cX1_without 54 = .ok (.iinc 2 1, 3) := dk_132 2 1 (dk_at dksX1_without_2 8 rfl rfl)
theorem dX1_without_57 : decode cX1_without 57 = .ok (.goto (-31), 3) := dk_167 255 225 (dk_at dksX1_without_2 11 rfl rfl)
theorem dX1_without_60 : decode cX1_without 60 = .ok (.aload_n 0, 1) := dk_42 (dk_at dksX1_without_2 14 rfl rfl)
theorem dX1_without_61 : decode cX1_without 61 = .ok (.getfield 75, 3) := dk_180 0 75 (dk_at dksX1_without_2 15 rfl rfl)
theorem dX1_without_64 : decode cX1_without 64 = .ok (.invokevirtual 137, 3) := dk_182 0 137 (dk_at dksX1_without_2 18 rfl rfl)
theorem dX1_without_67 : decode cX1_without 67 = .ok (.ireturn, 1) := dk_172 (dk_at dksX1_without_2 21 rfl rfl)
theorem q112 : (Jvm.Cond.initialized "GridTable") ∈ lw_all := lw_g (lw_at lw_m1 1 rfl) rfl
theorem q178 : (Jvm.Cond.instantiable "GridTable" (4 : Nat)) ∈ lw_all := lw_g (lw_at lw_m1 67 rfl) rfl
theorem q180 : (Jvm.Cond.instanceMethod ({ cls := "GridTable", name := "<init>", desc := "()V" } : Jvm.MethodName)) ∈ lw_all := lw_g (lw_at lw_m1 69 rfl) rfl
theorem q181 : (Jvm.Cond.code ({ cls := "GridTable", name := "<init>", desc := "()V" } : Jvm.MethodName) prog_1_method_10_code (1 : Nat) (Option.none : Option Jvm.ClassFile.FieldType)) ∈ lw_all := lw_g (lw_at lw_m1 70 rfl) rfl
theorem q182 : (Jvm.Cond.methodLink "GridTable" (54 : Nat) ({ cls := "java/lang/Object", name := "<init>", desc := "()V" } : Jvm.MethodName)) ∈ lw_all := lw_g (lw_at lw_m1 71 rfl) rfl
theorem q185 : (Jvm.Cond.classLink "GridTable" (57 : Nat) "GridTable$Tape") ∈ lw_all := lw_g (lw_at lw_m1 74 rfl) rfl
theorem q187 : (Jvm.Cond.methodLinkNest "GridTable" (59 : Nat) ({ cls := "GridTable$Tape", name := "<init>", desc := "()V" } : Jvm.MethodName) "GridTable") ∈ lw_tbl := lw_at lw_m1 76 rfl
theorem q194 : (Jvm.Cond.fieldLinkNest "GridTable" (78 : Nat) "GridTable$Tape" "size" "I" "GridTable") ∈ lw_tbl := lw_at lw_m1 83 rfl
theorem q201 : (Jvm.Cond.classLink "GridTable" (68 : Nat) "GridTable$Table") ∈ lw_all := lw_g (lw_at lw_m1 90 rfl) rfl
theorem q203 : (Jvm.Cond.methodLinkNest "GridTable" (70 : Nat) ({ cls := "GridTable$Table", name := "<init>", desc := "()V" } : Jvm.MethodName) "GridTable") ∈ lw_tbl := lw_at lw_m1 92 rfl
theorem q244 : (Jvm.Cond.fieldLinkNest "GridTable" (146 : Nat) "GridTable$Table" "xs" "[I" "GridTable") ∈ lw_tbl := lw_at lw_m1 133 rfl
theorem q252 : (Jvm.Cond.fieldLinkNest "GridTable" (149 : Nat) "GridTable$Table" "ys" "[I" "GridTable") ∈ lw_tbl := lw_at lw_m1 141 rfl
theorem q259 : (Jvm.Cond.fieldLinkNest "GridTable" (120 : Nat) "GridTable$Table" "shapes" "Ljava/util/ArrayList;" "GridTable") ∈ lw_tbl := lw_at lw_m1 148 rfl
theorem q262 : (Jvm.Cond.fieldLinkNest "GridTable" (127 : Nat) "GridTable$Table" "steps" "Ljava/util/ArrayList;" "GridTable") ∈ lw_tbl := lw_at lw_m1 151 rfl
theorem q265 : (Jvm.Cond.fieldLinkNest "GridTable" (130 : Nat) "GridTable$Table" "often" "[I" "GridTable") ∈ lw_tbl := lw_at lw_m1 154 rfl
theorem q267 : (Jvm.Cond.fieldLinkNest "GridTable" (134 : Nat) "GridTable$Table" "kept" "Ljava/util/ArrayList;" "GridTable") ∈ lw_tbl := lw_at lw_m1 156 rfl
theorem q269 : (Jvm.Cond.fieldLinkNest "GridTable" (117 : Nat) "GridTable$Table" "points" "I" "GridTable") ∈ lw_tbl := lw_at lw_m1 158 rfl
theorem q286 : (Jvm.Cond.fieldLink "GridTable" (60 : Nat) "GridTable" "tape" "LGridTable$Tape;") ∈ lw_all := lw_g (lw_at lw_m1 175 rfl) rfl
theorem q287 : (Jvm.Cond.fieldLink "GridTable" (64 : Nat) "GridTable" "errorAt" "I") ∈ lw_all := lw_g (lw_at lw_m1 176 rfl) rfl
theorem q288 : (Jvm.Cond.fieldLink "GridTable" (71 : Nat) "GridTable" "table" "LGridTable$Table;") ∈ lw_all := lw_g (lw_at lw_m1 177 rfl) rfl
theorem q289 : (Jvm.Cond.fieldLink "GridTable" (75 : Nat) "GridTable" "ahead" "LGridTable$Table;") ∈ lw_all := lw_g (lw_at lw_m1 178 rfl) rfl
theorem q290 : (Jvm.Cond.laysFinal "GridTable" "GridTable" "tape" "LGridTable$Tape;") ∈ lw_all := lw_g (lw_at lw_m1 179 rfl) rfl
theorem q291 : (Jvm.Cond.soleField "GridTable" "tape") ∈ lw_all := lw_g (lw_at lw_m1 180 rfl) rfl
theorem q292 : (Jvm.Cond.lays "GridTable" "GridTable" "errorAt" "I") ∈ lw_all := lw_g (lw_at lw_m1 181 rfl) rfl
theorem q293 : (Jvm.Cond.soleField "GridTable" "errorAt") ∈ lw_all := lw_g (lw_at lw_m1 182 rfl) rfl
theorem q294 : (Jvm.Cond.lays "GridTable" "GridTable" "table" "LGridTable$Table;") ∈ lw_all := lw_g (lw_at lw_m1 183 rfl) rfl
theorem q295 : (Jvm.Cond.soleField "GridTable" "table") ∈ lw_all := lw_g (lw_at lw_m1 184 rfl) rfl
theorem q296 : (Jvm.Cond.laysFinal "GridTable" "GridTable" "ahead" "LGridTable$Table;") ∈ lw_all := lw_g (lw_at lw_m1 185 rfl) rfl
theorem q297 : (Jvm.Cond.soleField "GridTable" "ahead") ∈ lw_all := lw_g (lw_at lw_m1 186 rfl) rfl
theorem q298 : (Jvm.Cond.superclass "GridTable" "java/lang/Object") ∈ lw_all := lw_g (lw_at lw_m1 187 rfl) rfl
theorem q300 : (Jvm.Cond.instanceMethod ({ cls := "GridTable", name := "teach", desc := "()I" } : Jvm.MethodName)) ∈ lw_all := lw_g (lw_at lw_m1 189 rfl) rfl
theorem q301 : (Jvm.Cond.selects "GridTable" ({ cls := "GridTable", name := "teach", desc := "()I" } : Jvm.MethodName) ({ cls := "GridTable", name := "teach", desc := "()I" } : Jvm.MethodName)) ∈ lw_all := lw_g (lw_at lw_m1 190 rfl) rfl
theorem q302 : (Jvm.Cond.codeWith ({ cls := "GridTable", name := "teach", desc := "()I" } : Jvm.MethodName) prog_1_method_13_code (3 : Nat) (Option.some Jvm.ClassFile.FieldType.int) [((7 : Nat), (35 : Nat), (38 : Nat), (109 : Nat))]) ∈ lw_all := lw_g (lw_at lw_m1 191 rfl) rfl
theorem q303 : (Jvm.Cond.classLink "GridTable" (109 : Nat) "GridTable$Fault") ∈ lw_all := lw_g (lw_at lw_m1 192 rfl) rfl
theorem q304 : (Jvm.Cond.classLink "GridTable" (91 : Nat) "GridTable$Reader") ∈ lw_all := lw_g (lw_at lw_m1 193 rfl) rfl
theorem q306 : (Jvm.Cond.classLink "GridTable" (93 : Nat) "GridTable$Scanner") ∈ lw_all := lw_g (lw_at lw_m1 195 rfl) rfl
theorem q308 : (Jvm.Cond.methodLink "GridTable" (95 : Nat) ({ cls := "GridTable$Scanner", name := "<init>", desc := "(LGridTable$Tape;)V" } : Jvm.MethodName)) ∈ lw_all := lw_g (lw_at lw_m1 197 rfl) rfl
theorem q321 : (Jvm.Cond.methodLink "GridTable" (98 : Nat) ({ cls := "GridTable$Scanner", name := "all", desc := "()Ljava/util/List;" } : Jvm.MethodName)) ∈ lw_all := lw_g (lw_at lw_m1 210 rfl) rfl
theorem q803 : (Jvm.Cond.selects "GridTable" ({ cls := "java/lang/Object", name := "getClass", desc := "()Ljava/lang/Class;" } : Jvm.MethodName) ({ cls := "java/lang/Object", name := "getClass", desc := "()Ljava/lang/Class;" } : Jvm.MethodName)) ∈ lw_all := lw_g (lw_at lw_m3 212 rfl) rfl
theorem q865 : (Jvm.Cond.methodLink "GridTable" (102 : Nat) ({ cls := "GridTable$Reader", name := "<init>", desc := "(Ljava/util/List;)V" } : Jvm.MethodName)) ∈ lw_all := lw_g (lw_at lw_m4 34 rfl) rfl
theorem q925 : (Jvm.Cond.methodLink "GridTable" (105 : Nat) ({ cls := "GridTable$Reader", name := "read", desc := "()LGridTable$Table;" } : Jvm.MethodName)) ∈ lw_all := lw_g (lw_at lw_m4 94 rfl) rfl
theorem q1003 : (Jvm.Cond.fieldLinkNest "GridTable" (111 : Nat) "GridTable$Fault" "error" "I" "GridTable") ∈ lw_tbl := lw_at lw_m4 172 rfl
theorem q1005 : (Jvm.Cond.fieldLinkNest "GridTable" (114 : Nat) "GridTable$Fault" "at" "I" "GridTable") ∈ lw_tbl := lw_at lw_m4 174 rfl
theorem q1027 : (Jvm.Cond.selects "GridTable" ({ cls := "java/lang/Object", name := "hashCode", desc := "()I" } : Jvm.MethodName) ({ cls := "java/lang/Object", name := "hashCode", desc := "()I" } : Jvm.MethodName)) ∈ lw_all := lw_g (lw_at lw_m4 196 rfl) rfl
theorem q1142 : (Jvm.Cond.selects "GridTable" ({ cls := "java/lang/Object", name := "equals", desc := "(Ljava/lang/Object;)Z" } : Jvm.MethodName) ({ cls := "java/lang/Object", name := "equals", desc := "(Ljava/lang/Object;)Z" } : Jvm.MethodName)) ∈ lw_all := lw_g (lw_at lw_m5 71 rfl) rfl
theorem q1747 : (Jvm.Cond.static ({ cls := "GridTable", name := "side", desc := "(IIIIII)I" } : Jvm.MethodName)) ∈ lw_all := lw_g (lw_at lw_m7 196 rfl) rfl
theorem q1748 : (Jvm.Cond.code ({ cls := "GridTable", name := "side", desc := "(IIIIII)I" } : Jvm.MethodName) prog_1_method_6_code (6 : Nat) (Option.some Jvm.ClassFile.FieldType.int)) ∈ lw_all := lw_g (lw_at lw_m7 197 rfl) rfl
theorem q1791 : (Jvm.Cond.static ({ cls := "GridTable", name := "held", desc := "(J)I" } : Jvm.MethodName)) ∈ lw_all := lw_g (lw_at lw_m8 0 rfl) rfl
theorem q1792 : (Jvm.Cond.code ({ cls := "GridTable", name := "held", desc := "(J)I" } : Jvm.MethodName) prog_1_method_8_code (2 : Nat) (Option.some Jvm.ClassFile.FieldType.int)) ∈ lw_all := lw_g (lw_at lw_m8 1 rfl) rfl
theorem q1793 : (Jvm.Cond.constantLong "GridTable" (42 : Nat) (-999 : Int64)) ∈ lw_all := lw_g (lw_at lw_m8 2 rfl) rfl
theorem q1794 : (Jvm.Cond.constantLong "GridTable" (44 : Nat) (999 : Int64)) ∈ lw_all := lw_g (lw_at lw_m8 3 rfl) rfl
theorem q1795 : (Jvm.Cond.methodLink "GridTable" (46 : Nat) ({ cls := "java/lang/Math", name := "min", desc := "(JJ)J" } : Jvm.MethodName)) ∈ lw_all := lw_g (lw_at lw_m8 4 rfl) rfl
theorem q1798 : (Jvm.Cond.methodLink "GridTable" (49 : Nat) ({ cls := "java/lang/Math", name := "max", desc := "(JJ)J" } : Jvm.MethodName)) ∈ lw_all := lw_g (lw_at lw_m8 7 rfl) rfl
theorem q2008 : (Jvm.Cond.fieldLinkNest "GridTable" (172 : Nat) "GridTable$Table$Shape" "corners" "[I" "GridTable") ∈ lw_tbl := lw_at lw_m8 217 rfl
theorem q2134 : (Jvm.Cond.fieldLinkNest "GridTable" (259 : Nat) "GridTable$Step" "deed" "LGridTable$Deed;" "GridTable") ∈ lw_tbl := lw_at lw_m9 103 rfl
theorem q2139 : (Jvm.Cond.fieldLinkNest "GridTable" (268 : Nat) "GridTable$Step" "what" "I" "GridTable") ∈ lw_tbl := lw_at lw_m9 108 rfl
theorem q2143 : (Jvm.Cond.fieldLinkNest "GridTable" (271 : Nat) "GridTable$Step" "round" "I" "GridTable") ∈ lw_tbl := lw_at lw_m9 112 rfl
theorem q2150 : (Jvm.Cond.fieldLinkNest "GridTable" (274 : Nat) "GridTable$Step" "test" "LGridTable$Test;" "GridTable") ∈ lw_tbl := lw_at lw_m9 119 rfl
theorem q2166 : (Jvm.Cond.instanceMethod ({ cls := "GridTable", name := "errorAt", desc := "()I" } : Jvm.MethodName)) ∈ lw_all := lw_g (lw_at lw_m9 135 rfl) rfl
theorem q2167 : (Jvm.Cond.selects "GridTable" ({ cls := "GridTable", name := "errorAt", desc := "()I" } : Jvm.MethodName) ({ cls := "GridTable", name := "errorAt", desc := "()I" } : Jvm.MethodName)) ∈ lw_all := lw_g (lw_at lw_m9 136 rfl) rfl
theorem q2168 : (Jvm.Cond.code ({ cls := "GridTable", name := "errorAt", desc := "()I" } : Jvm.MethodName) prog_1_method_14_code (1 : Nat) (Option.some Jvm.ClassFile.FieldType.int)) ∈ lw_all := lw_g (lw_at lw_m9 137 rfl) rfl
theorem q2170 : (Jvm.Cond.instanceMethod ({ cls := "GridTable", name := "run", desc := "()I" } : Jvm.MethodName)) ∈ lw_all := lw_g (lw_at lw_m9 139 rfl) rfl
theorem q2171 : (Jvm.Cond.selects "GridTable" ({ cls := "GridTable", name := "run", desc := "()I" } : Jvm.MethodName) ({ cls := "GridTable", name := "run", desc := "()I" } : Jvm.MethodName)) ∈ lw_all := lw_g (lw_at lw_m9 140 rfl) rfl
theorem q2172 : (Jvm.Cond.code ({ cls := "GridTable", name := "run", desc := "()I" } : Jvm.MethodName) prog_1_method_30_code (1 : Nat) (Option.some Jvm.ClassFile.FieldType.int)) ∈ lw_all := lw_g (lw_at lw_m9 141 rfl) rfl
theorem q2173 : (Jvm.Cond.methodLink "GridTable" (228 : Nat) ({ cls := "GridTable$Table", name := "where", desc := "()[I" } : Jvm.MethodName)) ∈ lw_all := lw_g (lw_at lw_m9 142 rfl) rfl
theorem q2178 : (Jvm.Cond.methodLink "GridTable" (232 : Nat) ({ cls := "GridTable$Table", name := "keep", desc := "([I)V" } : Jvm.MethodName)) ∈ lw_all := lw_g (lw_at lw_m9 147 rfl) rfl
theorem q2193 : (Jvm.Cond.methodLink "GridTable" (243 : Nat) ({ cls := "GridTable$Table", name := "run", desc := "()I" } : Jvm.MethodName)) ∈ lw_all := lw_g (lw_at lw_m9 162 rfl) rfl
theorem q2242 : (Jvm.Cond.static ({ cls := "GridTable", name := "isBetween", desc := "(III)Z" } : Jvm.MethodName)) ∈ lw_all := lw_g (lw_at lw_m9 211 rfl) rfl
theorem q2243 : (Jvm.Cond.code ({ cls := "GridTable", name := "isBetween", desc := "(III)Z" } : Jvm.MethodName) prog_1_method_7_code (3 : Nat) (Option.some Jvm.ClassFile.FieldType.boolean)) ∈ lw_all := lw_g (lw_at lw_m9 212 rfl) rfl
theorem q2244 : (Jvm.Cond.methodLink "GridTable" (33 : Nat) ({ cls := "java/lang/Math", name := "min", desc := "(II)I" } : Jvm.MethodName)) ∈ lw_all := lw_g (lw_at lw_m9 213 rfl) rfl
theorem q2245 : (Jvm.Cond.methodLink "GridTable" (39 : Nat) ({ cls := "java/lang/Math", name := "max", desc := "(II)I" } : Jvm.MethodName)) ∈ lw_all := lw_g (lw_at lw_m9 214 rfl) rfl
theorem q2293 : (Jvm.Cond.instanceMethod ({ cls := "GridTable", name := "mean", desc := "()D" } : Jvm.MethodName)) ∈ lw_all := lw_g (lw_at lw_m10 22 rfl) rfl
theorem q2294 : (Jvm.Cond.selects "GridTable" ({ cls := "GridTable", name := "mean", desc := "()D" } : Jvm.MethodName) ({ cls := "GridTable", name := "mean", desc := "()D" } : Jvm.MethodName)) ∈ lw_all := lw_g (lw_at lw_m10 23 rfl) rfl
theorem q2295 : (Jvm.Cond.code ({ cls := "GridTable", name := "mean", desc := "()D" } : Jvm.MethodName) prog_1_method_36_code (1 : Nat) (Option.some Jvm.ClassFile.FieldType.double)) ∈ lw_all := lw_g (lw_at lw_m10 24 rfl) rfl
theorem q2296 : (Jvm.Cond.methodLink "GridTable" (246 : Nat) ({ cls := "java/util/ArrayList", name := "isEmpty", desc := "()Z" } : Jvm.MethodName)) ∈ lw_all := lw_g (lw_at lw_m10 25 rfl) rfl
theorem q2300 : (Jvm.Cond.methodLink "GridTable" (137 : Nat) ({ cls := "GridTable$Table", name := "areas", desc := "()I" } : Jvm.MethodName)) ∈ lw_all := lw_g (lw_at lw_m10 29 rfl) rfl
theorem q2353 : (Jvm.Cond.methodLink "GridTable" (124 : Nat) ({ cls := "java/util/ArrayList", name := "size", desc := "()I" } : Jvm.MethodName)) ∈ lw_all := lw_g (lw_at lw_m10 82 rfl) rfl
theorem q2355 : (Jvm.Cond.instanceMethod ({ cls := "GridTable", name := "digest", desc := "()J" } : Jvm.MethodName)) ∈ lw_all := lw_g (lw_at lw_m10 84 rfl) rfl
theorem q2356 : (Jvm.Cond.selects "GridTable" ({ cls := "GridTable", name := "digest", desc := "()J" } : Jvm.MethodName) ({ cls := "GridTable", name := "digest", desc := "()J" } : Jvm.MethodName)) ∈ lw_all := lw_g (lw_at lw_m10 85 rfl) rfl
theorem q2357 : (Jvm.Cond.code ({ cls := "GridTable", name := "digest", desc := "()J" } : Jvm.MethodName) prog_1_method_37_code (7 : Nat) (Option.some Jvm.ClassFile.FieldType.long)) ∈ lw_all := lw_g (lw_at lw_m10 86 rfl) rfl
theorem q2358 : (Jvm.Cond.constantLong "GridTable" (291 : Nat) (811 : Int64)) ∈ lw_all := lw_g (lw_at lw_m10 87 rfl) rfl
theorem q2359 : (Jvm.Cond.constantLong "GridTable" (293 : Nat) (31 : Int64)) ∈ lw_all := lw_g (lw_at lw_m10 88 rfl) rfl
theorem q2360 : (Jvm.Cond.methodLink "GridTable" (295 : Nat) ({ cls := "GridTable", name := "count", desc := "(I)I" } : Jvm.MethodName)) ∈ lw_all := lw_g (lw_at lw_m10 89 rfl) rfl
theorem q2361 : (Jvm.Cond.instanceMethod ({ cls := "GridTable", name := "count", desc := "(I)I" } : Jvm.MethodName)) ∈ lw_all := lw_g (lw_at lw_m10 90 rfl) rfl
theorem q2362 : (Jvm.Cond.selects "GridTable" ({ cls := "GridTable", name := "count", desc := "(I)I" } : Jvm.MethodName) ({ cls := "GridTable", name := "count", desc := "(I)I" } : Jvm.MethodName)) ∈ lw_all := lw_g (lw_at lw_m10 91 rfl) rfl
theorem q2363 : (Jvm.Cond.code ({ cls := "GridTable", name := "count", desc := "(I)I" } : Jvm.MethodName) prog_1_method_15_code (7 : Nat) (Option.some Jvm.ClassFile.FieldType.int)) ∈ lw_all := lw_g (lw_at lw_m10 92 rfl) rfl
theorem q2364 : (Jvm.Cond.methodLink "GridTable" (25 : Nat) ({ cls := "GridTable", name := "requireIndex", desc := "(II)V" } : Jvm.MethodName)) ∈ lw_all := lw_g (lw_at lw_m10 93 rfl) rfl
theorem q2365 : (Jvm.Cond.static ({ cls := "GridTable", name := "requireIndex", desc := "(II)V" } : Jvm.MethodName)) ∈ lw_all := lw_g (lw_at lw_m10 94 rfl) rfl
theorem q2366 : (Jvm.Cond.code ({ cls := "GridTable", name := "requireIndex", desc := "(II)V" } : Jvm.MethodName) prog_1_method_3_code (2 : Nat) (Option.none : Option Jvm.ClassFile.FieldType)) ∈ lw_all := lw_g (lw_at lw_m10 95 rfl) rfl
theorem q2367 : (Jvm.Cond.classLink "GridTable" (10 : Nat) "java/lang/IndexOutOfBoundsException") ∈ lw_all := lw_g (lw_at lw_m10 96 rfl) rfl
theorem q2376 : (Jvm.Cond.methodLink "GridTable" (12 : Nat) ({ cls := "java/lang/IndexOutOfBoundsException", name := "<init>", desc := "()V" } : Jvm.MethodName)) ∈ lw_all := lw_g (lw_at lw_m10 105 rfl) rfl
theorem q2385 : (Jvm.Cond.methodLink "GridTable" (140 : Nat) ({ cls := "GridTable$Table", name := "crossings", desc := "()I" } : Jvm.MethodName)) ∈ lw_all := lw_g (lw_at lw_m10 114 rfl) rfl
theorem q2390 : (Jvm.Cond.methodLink "GridTable" (143 : Nat) ({ cls := "GridTable$Table", name := "inside", desc := "()I" } : Jvm.MethodName)) ∈ lw_all := lw_g (lw_at lw_m10 119 rfl) rfl
theorem q2399 : (Jvm.Cond.methodLink "GridTable" (175 : Nat) ({ cls := "GridTable", name := "pointGet", desc := "(II)I" } : Jvm.MethodName)) ∈ lw_all := lw_g (lw_at lw_m10 128 rfl) rfl
theorem q2400 : (Jvm.Cond.privateMethod ({ cls := "GridTable", name := "pointGet", desc := "(II)I" } : Jvm.MethodName)) ∈ lw_tbl := lw_at lw_m10 129 rfl
theorem q2401 : (Jvm.Cond.instanceMethod ({ cls := "GridTable", name := "pointGet", desc := "(II)I" } : Jvm.MethodName)) ∈ lw_all := lw_g (lw_at lw_m10 130 rfl) rfl
theorem q2402 : (Jvm.Cond.code ({ cls := "GridTable", name := "pointGet", desc := "(II)I" } : Jvm.MethodName) prog_1_method_16_code (10 : Nat) (Option.some Jvm.ClassFile.FieldType.int)) ∈ lw_all := lw_g (lw_at lw_m10 131 rfl) rfl
theorem q2403 : (Jvm.Cond.methodLink "GridTable" (152 : Nat) ({ cls := "GridTable$Table", name := "insideOf", desc := "(I)I" } : Jvm.MethodName)) ∈ lw_all := lw_g (lw_at lw_m10 132 rfl) rfl
theorem q2404 : (Jvm.Cond.methodLink "GridTable" (156 : Nat) ({ cls := "java/util/ArrayList", name := "iterator", desc := "()Ljava/util/Iterator;" } : Jvm.MethodName)) ∈ lw_all := lw_g (lw_at lw_m10 133 rfl) rfl
theorem q2405 : (Jvm.Cond.interfaceEntry "GridTable" (160 : Nat)) ∈ lw_tbl := lw_at lw_m10 134 rfl
theorem q2406 : (Jvm.Cond.methodLink "GridTable" (160 : Nat) ({ cls := "java/util/Iterator", name := "hasNext", desc := "()Z" } : Jvm.MethodName)) ∈ lw_all := lw_g (lw_at lw_m10 135 rfl) rfl
theorem q2407 : (Jvm.Cond.interfaceEntry "GridTable" (166 : Nat)) ∈ lw_tbl := lw_at lw_m10 136 rfl
theorem q2408 : (Jvm.Cond.methodLink "GridTable" (166 : Nat) ({ cls := "java/util/Iterator", name := "next", desc := "()Ljava/lang/Object;" } : Jvm.MethodName)) ∈ lw_all := lw_g (lw_at lw_m10 137 rfl) rfl
theorem q2409 : (Jvm.Cond.classLink "GridTable" (170 : Nat) "GridTable$Table$Shape") ∈ lw_all := lw_g (lw_at lw_m10 138 rfl) rfl
theorem q2410 : (Jvm.Cond.methodLink "GridTable" (202 : Nat) ({ cls := "GridTable", name := "shapeGet", desc := "(LGridTable$Table$Shape;I)I" } : Jvm.MethodName)) ∈ lw_all := lw_g (lw_at lw_m10 139 rfl) rfl
theorem q2411 : (Jvm.Cond.static ({ cls := "GridTable", name := "shapeGet", desc := "(LGridTable$Table$Shape;I)I" } : Jvm.MethodName)) ∈ lw_all := lw_g (lw_at lw_m10 140 rfl) rfl
theorem q2412 : (Jvm.Cond.code ({ cls := "GridTable", name := "shapeGet", desc := "(LGridTable$Table$Shape;I)I" } : Jvm.MethodName) prog_1_method_18_code (2 : Nat) (Option.some Jvm.ClassFile.FieldType.int)) ∈ lw_all := lw_g (lw_at lw_m10 141 rfl) rfl
theorem q2413 : (Jvm.Cond.methodLink "GridTable" (178 : Nat) ({ cls := "GridTable$Table$Shape", name := "area", desc := "()I" } : Jvm.MethodName)) ∈ lw_all := lw_g (lw_at lw_m10 142 rfl) rfl
theorem q2414 : (Jvm.Cond.methodLink "GridTable" (181 : Nat) ({ cls := "java/lang/Math", name := "abs", desc := "(I)I" } : Jvm.MethodName)) ∈ lw_all := lw_g (lw_at lw_m10 143 rfl) rfl
theorem q2415 : (Jvm.Cond.methodLink "GridTable" (184 : Nat) ({ cls := "java/lang/Integer", name := "signum", desc := "(I)I" } : Jvm.MethodName)) ∈ lw_all := lw_g (lw_at lw_m10 144 rfl) rfl
theorem q2416 : (Jvm.Cond.methodLink "GridTable" (189 : Nat) ({ cls := "GridTable$Table$Shape", name := "crosses", desc := "(LGridTable$Table$Shape;)I" } : Jvm.MethodName)) ∈ lw_all := lw_g (lw_at lw_m10 145 rfl) rfl
theorem q2417 : (Jvm.Cond.methodLink "GridTable" (193 : Nat) ({ cls := "GridTable$Table$Shape", name := "gridPoints", desc := "()I" } : Jvm.MethodName)) ∈ lw_all := lw_g (lw_at lw_m10 146 rfl) rfl
theorem q2423 : (Jvm.Cond.static ({ cls := "GridTable", name := "divisor", desc := "(II)I" } : Jvm.MethodName)) ∈ lw_all := lw_g (lw_at lw_m10 152 rfl) rfl
theorem q2424 : (Jvm.Cond.code ({ cls := "GridTable", name := "divisor", desc := "(II)I" } : Jvm.MethodName) prog_1_method_9_code (2 : Nat) (Option.some Jvm.ClassFile.FieldType.int)) ∈ lw_all := lw_g (lw_at lw_m10 153 rfl) rfl
theorem q2425 : (Jvm.Cond.methodLink "GridTable" (51 : Nat) ({ cls := "GridTable", name := "divisor", desc := "(II)I" } : Jvm.MethodName)) ∈ lw_all := lw_g (lw_at lw_m10 154 rfl) rfl
theorem q2426 : (Jvm.Cond.methodLink "GridTable" (196 : Nat) ({ cls := "GridTable$Table$Shape", name := "isConvex", desc := "()Z" } : Jvm.MethodName)) ∈ lw_all := lw_g (lw_at lw_m10 155 rfl) rfl
theorem q2430 : (Jvm.Cond.methodLink "GridTable" (218 : Nat) ({ cls := "GridTable", name := "hullGet", desc := "(LGridTable$Table$Shape;I)I" } : Jvm.MethodName)) ∈ lw_all := lw_g (lw_at lw_m10 159 rfl) rfl
theorem q2431 : (Jvm.Cond.static ({ cls := "GridTable", name := "hullGet", desc := "(LGridTable$Table$Shape;I)I" } : Jvm.MethodName)) ∈ lw_all := lw_g (lw_at lw_m10 160 rfl) rfl
theorem q2432 : (Jvm.Cond.code ({ cls := "GridTable", name := "hullGet", desc := "(LGridTable$Table$Shape;I)I" } : Jvm.MethodName) prog_1_method_23_code (2 : Nat) (Option.some Jvm.ClassFile.FieldType.int)) ∈ lw_all := lw_g (lw_at lw_m10 161 rfl) rfl
theorem q2433 : (Jvm.Cond.methodLink "GridTable" (209 : Nat) ({ cls := "GridTable$Table$Shape", name := "hull", desc := "()Ljava/util/List;" } : Jvm.MethodName)) ∈ lw_all := lw_g (lw_at lw_m10 162 rfl) rfl
theorem q2458 : (Jvm.Cond.interfaceEntry "GridTable" (19 : Nat)) ∈ lw_tbl := lw_at lw_m10 187 rfl
theorem q2459 : (Jvm.Cond.methodLink "GridTable" (19 : Nat) ({ cls := "java/util/List", name := "size", desc := "()I" } : Jvm.MethodName)) ∈ lw_all := lw_g (lw_at lw_m10 188 rfl) rfl
theorem q2460 : (Jvm.Cond.methodLink "GridTable" (212 : Nat) ({ cls := "GridTable$Table$Shape", name := "hullArea", desc := "()I" } : Jvm.MethodName)) ∈ lw_all := lw_g (lw_at lw_m10 189 rfl) rfl
theorem q2465 : (Jvm.Cond.methodLink "GridTable" (215 : Nat) ({ cls := "GridTable$Table$Shape", name := "widest", desc := "()I" } : Jvm.MethodName)) ∈ lw_all := lw_g (lw_at lw_m10 194 rfl) rfl
theorem q2470 : (Jvm.Cond.interfaceEntry "GridTable" (298 : Nat)) ∈ lw_tbl := lw_at lw_m10 199 rfl
theorem q2471 : (Jvm.Cond.methodLink "GridTable" (298 : Nat) ({ cls := "java/util/List", name := "iterator", desc := "()Ljava/util/Iterator;" } : Jvm.MethodName)) ∈ lw_all := lw_g (lw_at lw_m10 200 rfl) rfl
theorem q2477 : (Jvm.Cond.classLink "GridTable" (185 : Nat) "java/lang/Integer") ∈ lw_all := lw_g (lw_at lw_m10 206 rfl) rfl
theorem q2478 : (Jvm.Cond.methodLink "GridTable" (221 : Nat) ({ cls := "java/lang/Integer", name := "intValue", desc := "()I" } : Jvm.MethodName)) ∈ lw_all := lw_g (lw_at lw_m10 207 rfl) rfl
theorem q2479 : (Jvm.Cond.methodLink "GridTable" (284 : Nat) ({ cls := "GridTable", name := "stepGet", desc := "(II)I" } : Jvm.MethodName)) ∈ lw_all := lw_g (lw_at lw_m10 208 rfl) rfl
theorem q2480 : (Jvm.Cond.privateMethod ({ cls := "GridTable", name := "stepGet", desc := "(II)I" } : Jvm.MethodName)) ∈ lw_tbl := lw_at lw_m10 209 rfl
theorem q2481 : (Jvm.Cond.instanceMethod ({ cls := "GridTable", name := "stepGet", desc := "(II)I" } : Jvm.MethodName)) ∈ lw_all := lw_g (lw_at lw_m10 210 rfl) rfl
theorem q2482 : (Jvm.Cond.code ({ cls := "GridTable", name := "stepGet", desc := "(II)I" } : Jvm.MethodName) prog_1_method_32_code (4 : Nat) (Option.some Jvm.ClassFile.FieldType.int)) ∈ lw_all := lw_g (lw_at lw_m10 211 rfl) rfl
theorem q2483 : (Jvm.Cond.methodLink "GridTable" (256 : Nat) ({ cls := "java/util/ArrayList", name := "get", desc := "(I)Ljava/lang/Object;" } : Jvm.MethodName)) ∈ lw_all := lw_g (lw_at lw_m10 212 rfl) rfl
theorem q2484 : (Jvm.Cond.classLink "GridTable" (257 : Nat) "GridTable$Step") ∈ lw_all := lw_g (lw_at lw_m10 213 rfl) rfl
theorem q2485 : (Jvm.Cond.methodLink "GridTable" (263 : Nat) ({ cls := "GridTable$Deed", name := "ordinal", desc := "()I" } : Jvm.MethodName)) ∈ lw_all := lw_g (lw_at lw_m10 214 rfl) rfl
theorem q2493 : (Jvm.Cond.interfaceEntry "GridTable" (278 : Nat)) ∈ lw_tbl := lw_at lw_m10 222 rfl
theorem q2494 : (Jvm.Cond.methodLink "GridTable" (278 : Nat) ({ cls := "GridTable$Test", name := "holds", desc := "(LGridTable$Table;)Z" } : Jvm.MethodName)) ∈ lw_all := lw_g (lw_at lw_m10 223 rfl) rfl
theorem q2500 : (Jvm.Cond.instanceMethod ({ cls := "GridTable", name := "feed", desc := "(IIIII)I" } : Jvm.MethodName)) ∈ lw_all := lw_g (lw_at lw_m10 229 rfl) rfl
theorem q2501 : (Jvm.Cond.selects "GridTable" ({ cls := "GridTable", name := "feed", desc := "(IIIII)I" } : Jvm.MethodName) ({ cls := "GridTable", name := "feed", desc := "(IIIII)I" } : Jvm.MethodName)) ∈ lw_all := lw_g (lw_at lw_m10 230 rfl) rfl
theorem q2502 : (Jvm.Cond.code ({ cls := "GridTable", name := "feed", desc := "(IIIII)I" } : Jvm.MethodName) prog_1_method_11_code (6 : Nat) (Option.some Jvm.ClassFile.FieldType.int)) ∈ lw_all := lw_g (lw_at lw_m10 231 rfl) rfl
theorem q2503 : (Jvm.Cond.methodLink "GridTable" (80 : Nat) ({ cls := "GridTable", name := "requireState", desc := "(Z)V" } : Jvm.MethodName)) ∈ lw_all := lw_g (lw_at lw_m10 232 rfl) rfl
theorem q2504 : (Jvm.Cond.static ({ cls := "GridTable", name := "requireState", desc := "(Z)V" } : Jvm.MethodName)) ∈ lw_all := lw_g (lw_at lw_m10 233 rfl) rfl
theorem q2505 : (Jvm.Cond.code ({ cls := "GridTable", name := "requireState", desc := "(Z)V" } : Jvm.MethodName) prog_1_method_2_code (1 : Nat) (Option.none : Option Jvm.ClassFile.FieldType)) ∈ lw_all := lw_g (lw_at lw_m10 234 rfl) rfl
theorem q2506 : (Jvm.Cond.classLink "GridTable" (7 : Nat) "java/lang/IllegalStateException") ∈ lw_all := lw_g (lw_at lw_m10 235 rfl) rfl
theorem q2515 : (Jvm.Cond.methodLink "GridTable" (9 : Nat) ({ cls := "java/lang/IllegalStateException", name := "<init>", desc := "()V" } : Jvm.MethodName)) ∈ lw_all := lw_g (lw_at lw_m11 4 rfl) rfl
theorem q2521 : (Jvm.Cond.methodLink "GridTable" (83 : Nat) ({ cls := "GridTable$Tape", name := "put", desc := "(I)V" } : Jvm.MethodName)) ∈ lw_all := lw_g (lw_at lw_m11 10 rfl) rfl
theorem q2530 : (Jvm.Cond.instanceMethod ({ cls := "GridTable", name := "trim", desc := "(I)I" } : Jvm.MethodName)) ∈ lw_all := lw_g (lw_at lw_m11 19 rfl) rfl
theorem q2531 : (Jvm.Cond.selects "GridTable" ({ cls := "GridTable", name := "trim", desc := "(I)I" } : Jvm.MethodName) ({ cls := "GridTable", name := "trim", desc := "(I)I" } : Jvm.MethodName)) ∈ lw_all := lw_g (lw_at lw_m11 20 rfl) rfl
theorem q2532 : (Jvm.Cond.code ({ cls := "GridTable", name := "trim", desc := "(I)I" } : Jvm.MethodName) prog_1_method_12_code (2 : Nat) (Option.some Jvm.ClassFile.FieldType.int)) ∈ lw_all := lw_g (lw_at lw_m11 21 rfl) rfl
theorem q2533 : (Jvm.Cond.methodLink "GridTable" (87 : Nat) ({ cls := "GridTable", name := "requireFrom", desc := "(III)V" } : Jvm.MethodName)) ∈ lw_all := lw_g (lw_at lw_m11 22 rfl) rfl
theorem q2534 : (Jvm.Cond.static ({ cls := "GridTable", name := "requireFrom", desc := "(III)V" } : Jvm.MethodName)) ∈ lw_all := lw_g (lw_at lw_m11 23 rfl) rfl
theorem q2535 : (Jvm.Cond.code ({ cls := "GridTable", name := "requireFrom", desc := "(III)V" } : Jvm.MethodName) prog_1_method_4_code (3 : Nat) (Option.none : Option Jvm.ClassFile.FieldType)) ∈ lw_all := lw_g (lw_at lw_m11 24 rfl) rfl
theorem q2536 : (Jvm.Cond.methodLink "GridTable" (13 : Nat) ({ cls := "GridTable", name := "require", desc := "(Z)V" } : Jvm.MethodName)) ∈ lw_all := lw_g (lw_at lw_m11 25 rfl) rfl
theorem q2537 : (Jvm.Cond.static ({ cls := "GridTable", name := "require", desc := "(Z)V" } : Jvm.MethodName)) ∈ lw_all := lw_g (lw_at lw_m11 26 rfl) rfl
theorem q2538 : (Jvm.Cond.code ({ cls := "GridTable", name := "require", desc := "(Z)V" } : Jvm.MethodName) prog_1_method_1_code (1 : Nat) (Option.none : Option Jvm.ClassFile.FieldType)) ∈ lw_all := lw_g (lw_at lw_m11 27 rfl) rfl
theorem q2539 : (Jvm.Cond.classLink "GridTable" (1 : Nat) "java/lang/IllegalArgumentException") ∈ lw_all := lw_g (lw_at lw_m11 28 rfl) rfl
theorem q2540 : (Jvm.Cond.methodLink "GridTable" (3 : Nat) ({ cls := "java/lang/IllegalArgumentException", name := "<init>", desc := "()V" } : Jvm.MethodName)) ∈ lw_all := lw_g (lw_at lw_m11 29 rfl) rfl
theorem q2571 : (Jvm.Cond.instanceMethod ({ cls := "GridTable", name := "point", desc := "(II)I" } : Jvm.MethodName)) ∈ lw_all := lw_g (lw_at lw_m11 60 rfl) rfl
theorem q2572 : (Jvm.Cond.selects "GridTable" ({ cls := "GridTable", name := "point", desc := "(II)I" } : Jvm.MethodName) ({ cls := "GridTable", name := "point", desc := "(II)I" } : Jvm.MethodName)) ∈ lw_all := lw_g (lw_at lw_m11 61 rfl) rfl
theorem q2573 : (Jvm.Cond.code ({ cls := "GridTable", name := "point", desc := "(II)I" } : Jvm.MethodName) prog_1_method_17_code (3 : Nat) (Option.some Jvm.ClassFile.FieldType.int)) ∈ lw_all := lw_g (lw_at lw_m11 62 rfl) rfl
theorem q2578 : (Jvm.Cond.instanceMethod ({ cls := "GridTable", name := "shape", desc := "(II)I" } : Jvm.MethodName)) ∈ lw_all := lw_g (lw_at lw_m11 67 rfl) rfl
theorem q2579 : (Jvm.Cond.selects "GridTable" ({ cls := "GridTable", name := "shape", desc := "(II)I" } : Jvm.MethodName) ({ cls := "GridTable", name := "shape", desc := "(II)I" } : Jvm.MethodName)) ∈ lw_all := lw_g (lw_at lw_m11 68 rfl) rfl
theorem q2580 : (Jvm.Cond.code ({ cls := "GridTable", name := "shape", desc := "(II)I" } : Jvm.MethodName) prog_1_method_19_code (4 : Nat) (Option.some Jvm.ClassFile.FieldType.int)) ∈ lw_all := lw_g (lw_at lw_m11 69 rfl) rfl
theorem q2581 : (Jvm.Cond.methodLink "GridTable" (199 : Nat) ({ cls := "GridTable", name := "at", desc := "(Ljava/util/List;I)Ljava/lang/Object;" } : Jvm.MethodName)) ∈ lw_all := lw_g (lw_at lw_m11 70 rfl) rfl
theorem q2582 : (Jvm.Cond.static ({ cls := "GridTable", name := "at", desc := "(Ljava/util/List;I)Ljava/lang/Object;" } : Jvm.MethodName)) ∈ lw_all := lw_g (lw_at lw_m11 71 rfl) rfl
theorem q2583 : (Jvm.Cond.code ({ cls := "GridTable", name := "at", desc := "(Ljava/util/List;I)Ljava/lang/Object;" } : Jvm.MethodName) prog_1_method_5_code (2 : Nat) (Option.some (Jvm.ClassFile.FieldType.object "java/lang/Object"))) ∈ lw_all := lw_g (lw_at lw_m11 72 rfl) rfl
theorem q2584 : (Jvm.Cond.interfaceEntry "GridTable" (29 : Nat)) ∈ lw_tbl := lw_at lw_m11 73 rfl
theorem q2585 : (Jvm.Cond.methodLink "GridTable" (29 : Nat) ({ cls := "java/util/List", name := "get", desc := "(I)Ljava/lang/Object;" } : Jvm.MethodName)) ∈ lw_all := lw_g (lw_at lw_m11 74 rfl) rfl
theorem q2590 : (Jvm.Cond.instanceMethod ({ cls := "GridTable", name := "corner", desc := "(II)I" } : Jvm.MethodName)) ∈ lw_all := lw_g (lw_at lw_m11 79 rfl) rfl
theorem q2591 : (Jvm.Cond.selects "GridTable" ({ cls := "GridTable", name := "corner", desc := "(II)I" } : Jvm.MethodName) ({ cls := "GridTable", name := "corner", desc := "(II)I" } : Jvm.MethodName)) ∈ lw_all := lw_g (lw_at lw_m11 80 rfl) rfl
theorem q2592 : (Jvm.Cond.code ({ cls := "GridTable", name := "corner", desc := "(II)I" } : Jvm.MethodName) prog_1_method_20_code (4 : Nat) (Option.some Jvm.ClassFile.FieldType.int)) ∈ lw_all := lw_g (lw_at lw_m11 81 rfl) rfl
theorem q2597 : (Jvm.Cond.instanceMethod ({ cls := "GridTable", name := "lies", desc := "(II)I" } : Jvm.MethodName)) ∈ lw_all := lw_g (lw_at lw_m11 86 rfl) rfl
theorem q2598 : (Jvm.Cond.selects "GridTable" ({ cls := "GridTable", name := "lies", desc := "(II)I" } : Jvm.MethodName) ({ cls := "GridTable", name := "lies", desc := "(II)I" } : Jvm.MethodName)) ∈ lw_all := lw_g (lw_at lw_m11 87 rfl) rfl
theorem q2599 : (Jvm.Cond.code ({ cls := "GridTable", name := "lies", desc := "(II)I" } : Jvm.MethodName) prog_1_method_21_code (3 : Nat) (Option.some Jvm.ClassFile.FieldType.int)) ∈ lw_all := lw_g (lw_at lw_m11 88 rfl) rfl
theorem q2600 : (Jvm.Cond.methodLink "GridTable" (206 : Nat) ({ cls := "GridTable$Table$Shape", name := "lies", desc := "(II)I" } : Jvm.MethodName)) ∈ lw_all := lw_g (lw_at lw_m11 89 rfl) rfl
theorem q2605 : (Jvm.Cond.instanceMethod ({ cls := "GridTable", name := "crosses", desc := "(II)I" } : Jvm.MethodName)) ∈ lw_all := lw_g (lw_at lw_m11 94 rfl) rfl
theorem q2606 : (Jvm.Cond.selects "GridTable" ({ cls := "GridTable", name := "crosses", desc := "(II)I" } : Jvm.MethodName) ({ cls := "GridTable", name := "crosses", desc := "(II)I" } : Jvm.MethodName)) ∈ lw_all := lw_g (lw_at lw_m11 95 rfl) rfl
theorem q2607 : (Jvm.Cond.code ({ cls := "GridTable", name := "crosses", desc := "(II)I" } : Jvm.MethodName) prog_1_method_22_code (4 : Nat) (Option.some Jvm.ClassFile.FieldType.int)) ∈ lw_all := lw_g (lw_at lw_m11 96 rfl) rfl
theorem q2612 : (Jvm.Cond.instanceMethod ({ cls := "GridTable", name := "hull", desc := "(II)I" } : Jvm.MethodName)) ∈ lw_all := lw_g (lw_at lw_m11 101 rfl) rfl
theorem q2613 : (Jvm.Cond.selects "GridTable" ({ cls := "GridTable", name := "hull", desc := "(II)I" } : Jvm.MethodName) ({ cls := "GridTable", name := "hull", desc := "(II)I" } : Jvm.MethodName)) ∈ lw_all := lw_g (lw_at lw_m11 102 rfl) rfl
theorem q2614 : (Jvm.Cond.code ({ cls := "GridTable", name := "hull", desc := "(II)I" } : Jvm.MethodName) prog_1_method_24_code (4 : Nat) (Option.some Jvm.ClassFile.FieldType.int)) ∈ lw_all := lw_g (lw_at lw_m11 103 rfl) rfl
theorem q2619 : (Jvm.Cond.instanceMethod ({ cls := "GridTable", name := "hullCorner", desc := "(II)I" } : Jvm.MethodName)) ∈ lw_all := lw_g (lw_at lw_m11 108 rfl) rfl
theorem q2620 : (Jvm.Cond.selects "GridTable" ({ cls := "GridTable", name := "hullCorner", desc := "(II)I" } : Jvm.MethodName) ({ cls := "GridTable", name := "hullCorner", desc := "(II)I" } : Jvm.MethodName)) ∈ lw_all := lw_g (lw_at lw_m11 109 rfl) rfl
theorem q2621 : (Jvm.Cond.code ({ cls := "GridTable", name := "hullCorner", desc := "(II)I" } : Jvm.MethodName) prog_1_method_25_code (3 : Nat) (Option.some Jvm.ClassFile.FieldType.int)) ∈ lw_all := lw_g (lw_at lw_m11 110 rfl) rfl
theorem q2626 : (Jvm.Cond.instanceMethod ({ cls := "GridTable", name := "nearest", desc := "(II)I" } : Jvm.MethodName)) ∈ lw_all := lw_g (lw_at lw_m11 115 rfl) rfl
theorem q2627 : (Jvm.Cond.selects "GridTable" ({ cls := "GridTable", name := "nearest", desc := "(II)I" } : Jvm.MethodName) ({ cls := "GridTable", name := "nearest", desc := "(II)I" } : Jvm.MethodName)) ∈ lw_all := lw_g (lw_at lw_m11 116 rfl) rfl
theorem q2628 : (Jvm.Cond.code ({ cls := "GridTable", name := "nearest", desc := "(II)I" } : Jvm.MethodName) prog_1_method_26_code (5 : Nat) (Option.some Jvm.ClassFile.FieldType.int)) ∈ lw_all := lw_g (lw_at lw_m11 117 rfl) rfl
theorem q2629 : (Jvm.Cond.methodLink "GridTable" (224 : Nat) ({ cls := "GridTable$Table", name := "square", desc := "(III)I" } : Jvm.MethodName)) ∈ lw_all := lw_g (lw_at lw_m11 118 rfl) rfl
theorem q2634 : (Jvm.Cond.instanceMethod ({ cls := "GridTable", name := "enter", desc := "(II)I" } : Jvm.MethodName)) ∈ lw_all := lw_g (lw_at lw_m11 123 rfl) rfl
theorem q2635 : (Jvm.Cond.selects "GridTable" ({ cls := "GridTable", name := "enter", desc := "(II)I" } : Jvm.MethodName) ({ cls := "GridTable", name := "enter", desc := "(II)I" } : Jvm.MethodName)) ∈ lw_all := lw_g (lw_at lw_m11 124 rfl) rfl
theorem q2636 : (Jvm.Cond.code ({ cls := "GridTable", name := "enter", desc := "(II)I" } : Jvm.MethodName) prog_1_method_27_code (8 : Nat) (Option.some Jvm.ClassFile.FieldType.int)) ∈ lw_all := lw_g (lw_at lw_m11 125 rfl) rfl
theorem q2641 : (Jvm.Cond.instanceMethod ({ cls := "GridTable", name := "put", desc := "(III)I" } : Jvm.MethodName)) ∈ lw_all := lw_g (lw_at lw_m11 130 rfl) rfl
theorem q2642 : (Jvm.Cond.selects "GridTable" ({ cls := "GridTable", name := "put", desc := "(III)I" } : Jvm.MethodName) ({ cls := "GridTable", name := "put", desc := "(III)I" } : Jvm.MethodName)) ∈ lw_all := lw_g (lw_at lw_m11 131 rfl) rfl
theorem q2643 : (Jvm.Cond.code ({ cls := "GridTable", name := "put", desc := "(III)I" } : Jvm.MethodName) prog_1_method_28_code (5 : Nat) (Option.some Jvm.ClassFile.FieldType.int)) ∈ lw_all := lw_g (lw_at lw_m11 132 rfl) rfl
theorem q2644 : (Jvm.Cond.methodLink "GridTable" (236 : Nat) ({ cls := "GridTable$Table", name := "put", desc := "(IJJ)V" } : Jvm.MethodName)) ∈ lw_all := lw_g (lw_at lw_m11 133 rfl) rfl
theorem q2649 : (Jvm.Cond.instanceMethod ({ cls := "GridTable", name := "carry", desc := "(I)Z" } : Jvm.MethodName)) ∈ lw_all := lw_g (lw_at lw_m11 138 rfl) rfl
theorem q2650 : (Jvm.Cond.selects "GridTable" ({ cls := "GridTable", name := "carry", desc := "(I)Z" } : Jvm.MethodName) ({ cls := "GridTable", name := "carry", desc := "(I)Z" } : Jvm.MethodName)) ∈ lw_all := lw_g (lw_at lw_m11 139 rfl) rfl
theorem q2651 : (Jvm.Cond.code ({ cls := "GridTable", name := "carry", desc := "(I)Z" } : Jvm.MethodName) prog_1_method_29_code (4 : Nat) (Option.some Jvm.ClassFile.FieldType.boolean)) ∈ lw_all := lw_g (lw_at lw_m11 140 rfl) rfl
theorem q2652 : (Jvm.Cond.methodLink "GridTable" (239 : Nat) ({ cls := "GridTable$Table", name := "carry", desc := "(I)Z" } : Jvm.MethodName)) ∈ lw_all := lw_g (lw_at lw_m11 141 rfl) rfl
theorem q2657 : (Jvm.Cond.instanceMethod ({ cls := "GridTable", name := "undo", desc := "()I" } : Jvm.MethodName)) ∈ lw_all := lw_g (lw_at lw_m11 146 rfl) rfl
theorem q2658 : (Jvm.Cond.selects "GridTable" ({ cls := "GridTable", name := "undo", desc := "()I" } : Jvm.MethodName) ({ cls := "GridTable", name := "undo", desc := "()I" } : Jvm.MethodName)) ∈ lw_all := lw_g (lw_at lw_m11 147 rfl) rfl
theorem q2659 : (Jvm.Cond.code ({ cls := "GridTable", name := "undo", desc := "()I" } : Jvm.MethodName) prog_1_method_31_code (5 : Nat) (Option.some Jvm.ClassFile.FieldType.int)) ∈ lw_all := lw_g (lw_at lw_m11 148 rfl) rfl
theorem q2660 : (Jvm.Cond.methodLink "GridTable" (249 : Nat) ({ cls := "java/util/ArrayList", name := "remove", desc := "(I)Ljava/lang/Object;" } : Jvm.MethodName)) ∈ lw_all := lw_g (lw_at lw_m11 149 rfl) rfl
theorem q2661 : (Jvm.Cond.classLink "GridTable" (252 : Nat) "[I") ∈ lw_all := lw_g (lw_at lw_m11 150 rfl) rfl
theorem q2662 : (Jvm.Cond.methodLink "GridTable" (253 : Nat) ({ cls := "GridTable$Table", name := "bring", desc := "([I)V" } : Jvm.MethodName)) ∈ lw_all := lw_g (lw_at lw_m11 151 rfl) rfl
theorem q2670 : (Jvm.Cond.instanceMethod ({ cls := "GridTable", name := "step", desc := "(II)I" } : Jvm.MethodName)) ∈ lw_all := lw_g (lw_at lw_m11 159 rfl) rfl
theorem q2671 : (Jvm.Cond.selects "GridTable" ({ cls := "GridTable", name := "step", desc := "(II)I" } : Jvm.MethodName) ({ cls := "GridTable", name := "step", desc := "(II)I" } : Jvm.MethodName)) ∈ lw_all := lw_g (lw_at lw_m11 160 rfl) rfl
theorem q2672 : (Jvm.Cond.code ({ cls := "GridTable", name := "step", desc := "(II)I" } : Jvm.MethodName) prog_1_method_33_code (3 : Nat) (Option.some Jvm.ClassFile.FieldType.int)) ∈ lw_all := lw_g (lw_at lw_m11 161 rfl) rfl
theorem q2677 : (Jvm.Cond.instanceMethod ({ cls := "GridTable", name := "would", desc := "(I)I" } : Jvm.MethodName)) ∈ lw_all := lw_g (lw_at lw_m11 166 rfl) rfl
theorem q2678 : (Jvm.Cond.selects "GridTable" ({ cls := "GridTable", name := "would", desc := "(I)I" } : Jvm.MethodName) ({ cls := "GridTable", name := "would", desc := "(I)I" } : Jvm.MethodName)) ∈ lw_all := lw_g (lw_at lw_m11 167 rfl) rfl
theorem q2679 : (Jvm.Cond.code ({ cls := "GridTable", name := "would", desc := "(I)I" } : Jvm.MethodName) prog_1_method_34_code (3 : Nat) (Option.some Jvm.ClassFile.FieldType.int)) ∈ lw_all := lw_g (lw_at lw_m11 168 rfl) rfl
theorem q2680 : (Jvm.Cond.methodLink "GridTable" (287 : Nat) ({ cls := "GridTable$Table", name := "as", desc := "(LGridTable$Table;)LGridTable$Table;" } : Jvm.MethodName)) ∈ lw_all := lw_g (lw_at lw_m11 169 rfl) rfl
theorem q2710 : (Jvm.Cond.instanceMethod ({ cls := "GridTable", name := "without", desc := "(I)I" } : Jvm.MethodName)) ∈ lw_all := lw_g (lw_at lw_m11 199 rfl) rfl
theorem q2711 : (Jvm.Cond.selects "GridTable" ({ cls := "GridTable", name := "without", desc := "(I)I" } : Jvm.MethodName) ({ cls := "GridTable", name := "without", desc := "(I)I" } : Jvm.MethodName)) ∈ lw_all := lw_g (lw_at lw_m11 200 rfl) rfl
theorem q2712 : (Jvm.Cond.code ({ cls := "GridTable", name := "without", desc := "(I)I" } : Jvm.MethodName) prog_1_method_35_code (3 : Nat) (Option.some Jvm.ClassFile.FieldType.int)) ∈ lw_all := lw_g (lw_at lw_m11 201 rfl) rfl
theorem q3329 : (Jvm.Cond.castable "GridTable" "java/lang/Object") ∈ lw_tbl := lw_at lw_m14 98 rfl
theorem in_X1 : ∀ w ∈ wsX10, w ∈ lw_all := lw_in wsX10 [290, 292, 294, 296] (by decide +kernel) (by decide +kernel)

/-! GridTable$Tape -/
set_option maxRecDepth 100000
def RX2 : String := "GridTable$Tape"
def TX2 : u_T := fun k => match k with
  | 0 => ("GridTable$Tape", "bytes", "[B", true)
  | _ => ("GridTable$Tape", "size", "I", false)
def tyX2 : Nat → FieldType := fun k => match k with
  | 0 => .array .byte
  | _ => .int
abbrev wsX20 : List Cond := u_ws RX2 TX2 2
theorem nmX2 : ∀ a, a < 2 → ∀ b, b < 2 → a ≠ b → (TX2 a).2.1 ≠ (TX2 b).2.1 := by decide +kernel
theorem tyX2_ok : ∀ k, k < 2 → parseFieldDescriptor (TX2 k).2.2.1 = some (tyX2 k) := by decide +kernel
abbrev cX2_init : ByteArray := prog_30_method_1_code
def yX2_init : MethodName := ⟨RX2, "<init>", "()V"⟩
def dkwX2_init_0 : List UInt8 := [42, 183, 0, 3, 42, 17, 7, 208, 188, 8, 181, 0, 9, 177]
abbrev dktX2_init_0 : List UInt8 := dkwX2_init_0 ++ []
theorem dksX2_init_0 : cX2_init.data.toList.drop 0 = dktX2_init_0 := by decide +kernel
theorem dX2_init_0 : decode cX2_init 0 = .ok (.aload_n 0, 1) := dk_42 (dk_at dksX2_init_0 0 rfl rfl)
theorem dX2_init_1 : decode cX2_init 1 = .ok (.invokespecial 3, 3) := dk_183 0 3 (dk_at dksX2_init_0 1 rfl rfl)
theorem dX2_init_4 : decode cX2_init 4 = .ok (.aload_n 0, 1) := dk_42 (dk_at dksX2_init_0 4 rfl rfl)
theorem dX2_init_5 : decode cX2_init 5 = .ok (.sipush 2000, 3) := dk_17 7 208 (dk_at dksX2_init_0 5 rfl rfl)
theorem dX2_init_8 : decode cX2_init 8 = .ok (.newarray .byte, 2) := dk_188_8 (dk_at dksX2_init_0 8 rfl rfl)
theorem dX2_init_10 : decode cX2_init 10 = .ok (.putfield 9, 3) := dk_181 0 9 (dk_at dksX2_init_0 10 rfl rfl)
theorem dX2_init_13 : decode cX2_init 13 = .ok (.return_, 1) := dk_177 (dk_at dksX2_init_0 13 rfl rfl)
abbrev cX2_at : ByteArray := prog_30_method_3_code
def yX2_at : MethodName := ⟨RX2, "at", "(I)I"⟩
def dkwX2_at_0 : List UInt8 := [27, 42, 180, 0, 15, 162, 0, 16, 42, 180, 0, 9, 27, 51, 17, 0, 255, 126, 167, 0, 4, 3, 172]
abbrev dktX2_at_0 : List UInt8 := dkwX2_at_0 ++ []
theorem dksX2_at_0 : cX2_at.data.toList.drop 0 = dktX2_at_0 := by decide +kernel
theorem dX2_at_0 : decode cX2_at 0 = .ok (.iload_n 1, 1) := dk_27 (dk_at dksX2_at_0 0 rfl rfl)
theorem dX2_at_1 : decode cX2_at 1 = .ok (.aload_n 0, 1) := dk_42 (dk_at dksX2_at_0 1 rfl rfl)
theorem dX2_at_2 : decode cX2_at 2 = .ok (.getfield 15, 3) := dk_180 0 15 (dk_at dksX2_at_0 2 rfl rfl)
theorem dX2_at_5 : decode cX2_at 5 = .ok (.if_icmp .ge 16, 3) := dk_162 0 16 (dk_at dksX2_at_0 5 rfl rfl)
theorem dX2_at_8 : decode cX2_at 8 = .ok (.aload_n 0, 1) := dk_42 (dk_at dksX2_at_0 8 rfl rfl)
theorem dX2_at_9 : decode cX2_at 9 = .ok (.getfield 9, 3) := dk_180 0 9 (dk_at dksX2_at_0 9 rfl rfl)
theorem dX2_at_12 : decode cX2_at 12 = .ok (.iload_n 1, 1) := dk_27 (dk_at dksX2_at_0 12 rfl rfl)
theorem dX2_at_13 : decode cX2_at 13 = .ok (.baload, 1) := dk_51 (dk_at dksX2_at_0 13 rfl rfl)
theorem dX2_at_14 : decode cX2_at 14 = .ok (.sipush 255, 3) := dk_17 0 255 (dk_at dksX2_at_0 14 rfl rfl)
theorem dX2_at_17 : decode cX2_at 17 = .ok (.iand, 1) := dk_126 (dk_at dksX2_at_0 17 rfl rfl)
theorem dX2_at_18 : decode cX2_at 18 = .ok (.goto 4, 3) := dk_167 0 4 (dk_at dksX2_at_0 18 rfl rfl)
theorem dX2_at_21 : decode cX2_at 21 = .ok (.iconst 0, 1) := dk_3 (dk_at dksX2_at_0 21 rfl rfl)
theorem dX2_at_22 : decode cX2_at 22 = .ok (.ireturn, 1) := dk_172 (dk_at dksX2_at_0 22 rfl rfl)
abbrev cX2_text : ByteArray := prog_30_method_4_code
def yX2_text : MethodName := ⟨RX2, "text", "(II)Ljava/lang/String;"⟩
def dkwX2_text_1 : List UInt8 := [146, 182, 0, 26, 87, 132, 4, 1, 167, 255, 235, 45, 182, 0, 30, 176]
abbrev dktX2_text_1 : List UInt8 := dkwX2_text_1 ++ []
def dkwX2_text_0 : List UInt8 := [187, 0, 19, 89, 183, 0, 21, 78, 27, 54, 4, 21, 4, 28, 162, 0, 21, 45, 42, 21, 4, 182, 0, 22]
abbrev dktX2_text_0 : List UInt8 := dkwX2_text_0 ++ dktX2_text_1
theorem dksX2_text_0 : cX2_text.data.toList.drop 0 = dktX2_text_0 := by decide +kernel
theorem dksX2_text_1 : cX2_text.data.toList.drop 24 = dktX2_text_1 := dk_seg dksX2_text_0 24 rfl rfl
theorem dX2_text_0 : decode cX2_text 0 = .ok (.new 19, 3) := dk_187 0 19 (dk_at dksX2_text_0 0 rfl rfl)
theorem dX2_text_3 : decode cX2_text 3 = .ok (.dup, 1) := dk_89 (dk_at dksX2_text_0 3 rfl rfl)
theorem dX2_text_4 : decode cX2_text 4 = .ok (.invokespecial 21, 3) := dk_183 0 21 (dk_at dksX2_text_0 4 rfl rfl)
theorem dX2_text_7 : decode cX2_text 7 = .ok (.astore_n 3, 1) := dk_78 (dk_at dksX2_text_0 7 rfl rfl)
theorem dX2_text_8 : decode cX2_text 8 = .ok (.iload_n 1, 1) := dk_27 (dk_at dksX2_text_0 8 rfl rfl)
theorem dX2_text_9 : decode cX2_text 9 = .ok (.istore 4, 2) := dk_54 4 (dk_at dksX2_text_0 9 rfl rfl)
theorem dX2_text_11 : decode cX2_text 11 = .ok (.iload 4, 2) := dk_21 4 (dk_at dksX2_text_0 11 rfl rfl)
theorem dX2_text_13 : decode cX2_text 13 = .ok (.iload_n 2, 1) := dk_28 (dk_at dksX2_text_0 13 rfl rfl)
theorem dX2_text_14 : decode cX2_text 14 = .ok (.if_icmp .ge 21, 3) := dk_162 0 21 (dk_at dksX2_text_0 14 rfl rfl)
theorem dX2_text_17 : decode cX2_text 17 = .ok (.aload_n 3, 1) := dk_45 (dk_at dksX2_text_0 17 rfl rfl)
theorem dX2_text_18 : decode cX2_text 18 = .ok (.aload_n 0, 1) := dk_42 (dk_at dksX2_text_0 18 rfl rfl)
theorem dX2_text_19 : decode cX2_text 19 = .ok (.iload 4, 2) := dk_21 4 (dk_at dksX2_text_0 19 rfl rfl)
theorem dX2_text_21 : decode cX2_text 21 = .ok (.invokevirtual 22, 3) := dk_182 0 22 (dk_at dksX2_text_0 21 rfl rfl)
theorem dX2_text_24 : decode cX2_text 24 = .ok (.i2c, 1) := dk_146 (dk_at dksX2_text_1 0 rfl rfl)
theorem dX2_text_25 : decode cX2_text 25 = .ok (.invokevirtual 26, 3) := dk_182 0 26 (dk_at dksX2_text_1 1 rfl rfl)
theorem dX2_text_28 : decode cX2_text 28 = .ok (.pop, 1) := dk_87 (dk_at dksX2_text_1 4 rfl rfl)
theorem dX2_text_29 : decode cX2_text 29 = .ok (.iinc 4 1, 3) := dk_132 4 1 (dk_at dksX2_text_1 5 rfl rfl)
theorem dX2_text_32 : decode cX2_text 32 = .ok (.goto (-21), 3) := dk_167 255 235 (dk_at dksX2_text_1 8 rfl rfl)
theorem dX2_text_35 : decode cX2_text 35 = .ok (.aload_n 3, 1) := dk_45 (dk_at dksX2_text_1 11 rfl rfl)
theorem dX2_text_36 : decode cX2_text 36 = .ok (.invokevirtual 30, 3) := dk_182 0 30 (dk_at dksX2_text_1 12 rfl rfl)
theorem dX2_text_39 : decode cX2_text 39 = .ok (.areturn, 1) := dk_176 (dk_at dksX2_text_1 15 rfl rfl)
abbrev cX2_put : ByteArray := prog_30_method_2_code
def yX2_put : MethodName := ⟨RX2, "put", "(I)V"⟩
def dkwX2_put_1 : List UInt8 := [180, 0, 15, 4, 96, 181, 0, 15, 132, 2, 248, 167, 255, 226, 177]
abbrev dktX2_put_1 : List UInt8 := dkwX2_put_1 ++ []
def dkwX2_put_0 : List UInt8 := [16, 24, 61, 28, 155, 0, 32, 42, 180, 0, 9, 42, 180, 0, 15, 27, 28, 122, 145, 84, 42, 89]
abbrev dktX2_put_0 : List UInt8 := dkwX2_put_0 ++ dktX2_put_1
theorem dksX2_put_0 : cX2_put.data.toList.drop 0 = dktX2_put_0 := by decide +kernel
theorem dksX2_put_1 : cX2_put.data.toList.drop 22 = dktX2_put_1 := dk_seg dksX2_put_0 22 rfl rfl
theorem dX2_put_0 : decode cX2_put 0 = .ok (.bipush 24, 2) := dk_16 24 (dk_at dksX2_put_0 0 rfl rfl)
theorem dX2_put_2 : decode cX2_put 2 = .ok (.istore_n 2, 1) := dk_61 (dk_at dksX2_put_0 2 rfl rfl)
theorem dX2_put_3 : decode cX2_put 3 = .ok (.iload_n 2, 1) := dk_28 (dk_at dksX2_put_0 3 rfl rfl)
theorem dX2_put_4 : decode cX2_put 4 = .ok (.ifCond .lt 32, 3) := dk_155 0 32 (dk_at dksX2_put_0 4 rfl rfl)
theorem dX2_put_7 : decode cX2_put 7 = .ok (.aload_n 0, 1) := dk_42 (dk_at dksX2_put_0 7 rfl rfl)
theorem dX2_put_8 : decode cX2_put 8 = .ok (.getfield 9, 3) := dk_180 0 9 (dk_at dksX2_put_0 8 rfl rfl)
theorem dX2_put_11 : decode cX2_put 11 = .ok (.aload_n 0, 1) := dk_42 (dk_at dksX2_put_0 11 rfl rfl)
theorem dX2_put_12 : decode cX2_put 12 = .ok (.getfield 15, 3) := dk_180 0 15 (dk_at dksX2_put_0 12 rfl rfl)
theorem dX2_put_15 : decode cX2_put 15 = .ok (.iload_n 1, 1) := dk_27 (dk_at dksX2_put_0 15 rfl rfl)
theorem dX2_put_16 : decode cX2_put 16 = .ok (.iload_n 2, 1) := dk_28 (dk_at dksX2_put_0 16 rfl rfl)
theorem dX2_put_17 : decode cX2_put 17 = .ok (.ishr, 1) := dk_122 (dk_at dksX2_put_0 17 rfl rfl)
theorem dX2_put_18 : decode cX2_put 18 = .ok (.i2b, 1) := dk_145 (dk_at dksX2_put_0 18 rfl rfl)
theorem dX2_put_19 : decode cX2_put 19 = .ok (.bastore, 1) := dk_84 (dk_at dksX2_put_0 19 rfl rfl)
theorem dX2_put_20 : decode cX2_put 20 = .ok (.aload_n 0, 1) := dk_42 (dk_at dksX2_put_0 20 rfl rfl)
theorem dX2_put_21 : decode cX2_put 21 = .ok (.dup, 1) := dk_89 (dk_at dksX2_put_0 21 rfl rfl)
theorem dX2_put_22 : decode cX2_put 22 = .ok (.getfield 15, 3) := dk_180 0 15 (dk_at dksX2_put_1 0 rfl rfl)
theorem dX2_put_25 : decode cX2_put 25 = .ok (.iconst 1, 1) := dk_4 (dk_at dksX2_put_1 3 rfl rfl)
theorem dX2_put_26 : decode cX2_put 26 = .ok (.iadd, 1) := dk_96 (dk_at dksX2_put_1 4 rfl rfl)
theorem dX2_put_27 : decode cX2_put 27 = .ok (.putfield 15, 3) := dk_181 0 15 (dk_at dksX2_put_1 5 rfl rfl)
theorem dX2_put_30 : decode cX2_put 30 = .ok (.iinc 2 (-8), 3) := dk_132 2 248 (dk_at dksX2_put_1 8 rfl rfl)
theorem dX2_put_33 : decode cX2_put 33 = .ok (.goto (-30), 3) := dk_167 255 226 (dk_at dksX2_put_1 11 rfl rfl)
theorem dX2_put_36 : decode cX2_put 36 = .ok (.return_, 1) := dk_177 (dk_at dksX2_put_1 14 rfl rfl)
theorem q113 : (Jvm.Cond.initialized "GridTable$Tape") ∈ lw_all := lw_g (lw_at lw_m1 2 rfl) rfl
theorem q186 : (Jvm.Cond.instantiable "GridTable$Tape" (2 : Nat)) ∈ lw_all := lw_g (lw_at lw_m1 75 rfl) rfl
theorem q188 : (Jvm.Cond.instanceMethod ({ cls := "GridTable$Tape", name := "<init>", desc := "()V" } : Jvm.MethodName)) ∈ lw_all := lw_g (lw_at lw_m1 77 rfl) rfl
theorem q189 : (Jvm.Cond.code ({ cls := "GridTable$Tape", name := "<init>", desc := "()V" } : Jvm.MethodName) prog_30_method_1_code (1 : Nat) (Option.none : Option Jvm.ClassFile.FieldType)) ∈ lw_all := lw_g (lw_at lw_m1 78 rfl) rfl
theorem q190 : (Jvm.Cond.methodLink "GridTable$Tape" (3 : Nat) ({ cls := "java/lang/Object", name := "<init>", desc := "()V" } : Jvm.MethodName)) ∈ lw_all := lw_g (lw_at lw_m1 79 rfl) rfl
theorem q191 : (Jvm.Cond.fieldLink "GridTable$Tape" (9 : Nat) "GridTable$Tape" "bytes" "[B") ∈ lw_all := lw_g (lw_at lw_m1 80 rfl) rfl
theorem q192 : (Jvm.Cond.fieldLink "GridTable$Tape" (15 : Nat) "GridTable$Tape" "size" "I") ∈ lw_all := lw_g (lw_at lw_m1 81 rfl) rfl
theorem q195 : (Jvm.Cond.laysFinal "GridTable$Tape" "GridTable$Tape" "bytes" "[B") ∈ lw_all := lw_g (lw_at lw_m1 84 rfl) rfl
theorem q196 : (Jvm.Cond.soleField "GridTable$Tape" "bytes") ∈ lw_all := lw_g (lw_at lw_m1 85 rfl) rfl
theorem q197 : (Jvm.Cond.lays "GridTable$Tape" "GridTable$Tape" "size" "I") ∈ lw_all := lw_g (lw_at lw_m1 86 rfl) rfl
theorem q198 : (Jvm.Cond.soleField "GridTable$Tape" "size") ∈ lw_all := lw_g (lw_at lw_m1 87 rfl) rfl
theorem q199 : (Jvm.Cond.superclass "GridTable$Tape" "java/lang/Object") ∈ lw_all := lw_g (lw_at lw_m1 88 rfl) rfl
theorem q326 : (Jvm.Cond.instanceMethod ({ cls := "GridTable$Tape", name := "at", desc := "(I)I" } : Jvm.MethodName)) ∈ lw_all := lw_g (lw_at lw_m1 215 rfl) rfl
theorem q327 : (Jvm.Cond.selects "GridTable$Tape" ({ cls := "GridTable$Tape", name := "at", desc := "(I)I" } : Jvm.MethodName) ({ cls := "GridTable$Tape", name := "at", desc := "(I)I" } : Jvm.MethodName)) ∈ lw_all := lw_g (lw_at lw_m1 216 rfl) rfl
theorem q328 : (Jvm.Cond.code ({ cls := "GridTable$Tape", name := "at", desc := "(I)I" } : Jvm.MethodName) prog_30_method_3_code (2 : Nat) (Option.some Jvm.ClassFile.FieldType.int)) ∈ lw_all := lw_g (lw_at lw_m1 217 rfl) rfl
theorem q371 : (Jvm.Cond.instanceMethod ({ cls := "GridTable$Tape", name := "text", desc := "(II)Ljava/lang/String;" } : Jvm.MethodName)) ∈ lw_all := lw_g (lw_at lw_m2 20 rfl) rfl
theorem q372 : (Jvm.Cond.selects "GridTable$Tape" ({ cls := "GridTable$Tape", name := "text", desc := "(II)Ljava/lang/String;" } : Jvm.MethodName) ({ cls := "GridTable$Tape", name := "text", desc := "(II)Ljava/lang/String;" } : Jvm.MethodName)) ∈ lw_all := lw_g (lw_at lw_m2 21 rfl) rfl
theorem q373 : (Jvm.Cond.code ({ cls := "GridTable$Tape", name := "text", desc := "(II)Ljava/lang/String;" } : Jvm.MethodName) prog_30_method_4_code (5 : Nat) (Option.some (Jvm.ClassFile.FieldType.object "java/lang/String"))) ∈ lw_all := lw_g (lw_at lw_m2 22 rfl) rfl
theorem q374 : (Jvm.Cond.classLink "GridTable$Tape" (19 : Nat) "java/lang/StringBuilder") ∈ lw_all := lw_g (lw_at lw_m2 23 rfl) rfl
theorem q376 : (Jvm.Cond.methodLink "GridTable$Tape" (21 : Nat) ({ cls := "java/lang/StringBuilder", name := "<init>", desc := "()V" } : Jvm.MethodName)) ∈ lw_all := lw_g (lw_at lw_m2 25 rfl) rfl
theorem q405 : (Jvm.Cond.methodLink "GridTable$Tape" (22 : Nat) ({ cls := "GridTable$Tape", name := "at", desc := "(I)I" } : Jvm.MethodName)) ∈ lw_all := lw_g (lw_at lw_m2 54 rfl) rfl
theorem q406 : (Jvm.Cond.methodLink "GridTable$Tape" (26 : Nat) ({ cls := "java/lang/StringBuilder", name := "append", desc := "(C)Ljava/lang/StringBuilder;" } : Jvm.MethodName)) ∈ lw_all := lw_g (lw_at lw_m2 55 rfl) rfl
theorem q501 : (Jvm.Cond.methodLink "GridTable$Tape" (30 : Nat) ({ cls := "java/lang/StringBuilder", name := "toString", desc := "()Ljava/lang/String;" } : Jvm.MethodName)) ∈ lw_all := lw_g (lw_at lw_m2 150 rfl) rfl
theorem q829 : (Jvm.Cond.selects "GridTable$Tape" ({ cls := "java/lang/Object", name := "getClass", desc := "()Ljava/lang/Class;" } : Jvm.MethodName) ({ cls := "java/lang/Object", name := "getClass", desc := "()Ljava/lang/Class;" } : Jvm.MethodName)) ∈ lw_all := lw_g (lw_at lw_m3 238 rfl) rfl
theorem q1058 : (Jvm.Cond.selects "GridTable$Tape" ({ cls := "java/lang/Object", name := "hashCode", desc := "()I" } : Jvm.MethodName) ({ cls := "java/lang/Object", name := "hashCode", desc := "()I" } : Jvm.MethodName)) ∈ lw_all := lw_g (lw_at lw_m4 227 rfl) rfl
theorem q1170 : (Jvm.Cond.selects "GridTable$Tape" ({ cls := "java/lang/Object", name := "equals", desc := "(Ljava/lang/Object;)Z" } : Jvm.MethodName) ({ cls := "java/lang/Object", name := "equals", desc := "(Ljava/lang/Object;)Z" } : Jvm.MethodName)) ∈ lw_all := lw_g (lw_at lw_m5 99 rfl) rfl
theorem q2522 : (Jvm.Cond.instanceMethod ({ cls := "GridTable$Tape", name := "put", desc := "(I)V" } : Jvm.MethodName)) ∈ lw_all := lw_g (lw_at lw_m11 11 rfl) rfl
theorem q2523 : (Jvm.Cond.selects "GridTable$Tape" ({ cls := "GridTable$Tape", name := "put", desc := "(I)V" } : Jvm.MethodName) ({ cls := "GridTable$Tape", name := "put", desc := "(I)V" } : Jvm.MethodName)) ∈ lw_all := lw_g (lw_at lw_m11 12 rfl) rfl
theorem q2524 : (Jvm.Cond.code ({ cls := "GridTable$Tape", name := "put", desc := "(I)V" } : Jvm.MethodName) prog_30_method_2_code (3 : Nat) (Option.none : Option Jvm.ClassFile.FieldType)) ∈ lw_all := lw_g (lw_at lw_m11 13 rfl) rfl
theorem q3330 : (Jvm.Cond.castable "GridTable$Tape" "java/lang/Object") ∈ lw_tbl := lw_at lw_m14 99 rfl
theorem in_X2 : ∀ w ∈ wsX20, w ∈ lw_all := lw_in wsX20 [195, 197] (by decide +kernel) (by decide +kernel)

/-! GridTable$Table -/
set_option maxRecDepth 100000
def RX3 : String := "GridTable$Table"
def TX3 : u_T := fun k => match k with
  | 0 => ("GridTable$Table", "xs", "[I", true)
  | 1 => ("GridTable$Table", "ys", "[I", true)
  | 2 => ("GridTable$Table", "shapes", "Ljava/util/ArrayList;", true)
  | 3 => ("GridTable$Table", "steps", "Ljava/util/ArrayList;", true)
  | 4 => ("GridTable$Table", "often", "[I", true)
  | 5 => ("GridTable$Table", "kept", "Ljava/util/ArrayList;", true)
  | _ => ("GridTable$Table", "points", "I", false)
def tyX3 : Nat → FieldType := fun k => match k with
  | 0 => .array .int
  | 1 => .array .int
  | 2 => .object "java/util/ArrayList"
  | 3 => .object "java/util/ArrayList"
  | 4 => .array .int
  | 5 => .object "java/util/ArrayList"
  | _ => .int
abbrev wsX30 : List Cond := u_ws RX3 TX3 7
theorem nmX3 : ∀ a, a < 7 → ∀ b, b < 7 → a ≠ b → (TX3 a).2.1 ≠ (TX3 b).2.1 := by decide +kernel
theorem tyX3_ok : ∀ k, k < 7 → parseFieldDescriptor (TX3 k).2.2.1 = some (tyX3 k) := by decide +kernel
abbrev cX3_init : ByteArray := prog_28_method_1_code
def yX3_init : MethodName := ⟨RX3, "<init>", "()V"⟩
def dkwX3_init_2 : List UInt8 := [181, 0, 28, 42, 187, 0, 18, 89, 183, 0, 20, 181, 0, 31, 177]
abbrev dktX3_init_2 : List UInt8 := dkwX3_init_2 ++ []
def dkwX3_init_1 : List UInt8 := [89, 183, 0, 20, 181, 0, 21, 42, 187, 0, 18, 89, 183, 0, 20, 181, 0, 25, 42, 16, 20, 188, 10]
abbrev dktX3_init_1 : List UInt8 := dkwX3_init_1 ++ dktX3_init_2
def dkwX3_init_0 : List UInt8 := [42, 183, 0, 3, 42, 16, 16, 188, 10, 181, 0, 9, 42, 16, 16, 188, 10, 181, 0, 15, 42, 187, 0, 18]
abbrev dktX3_init_0 : List UInt8 := dkwX3_init_0 ++ dktX3_init_1
theorem dksX3_init_0 : cX3_init.data.toList.drop 0 = dktX3_init_0 := by decide +kernel
theorem dksX3_init_1 : cX3_init.data.toList.drop 24 = dktX3_init_1 := dk_seg dksX3_init_0 24 rfl rfl
theorem dksX3_init_2 : cX3_init.data.toList.drop 47 = dktX3_init_2 := dk_seg dksX3_init_1 23 rfl rfl
theorem dX3_init_0 : decode cX3_init 0 = .ok (.aload_n 0, 1) := dk_42 (dk_at dksX3_init_0 0 rfl rfl)
theorem dX3_init_1 : decode cX3_init 1 = .ok (.invokespecial 3, 3) := dk_183 0 3 (dk_at dksX3_init_0 1 rfl rfl)
theorem dX3_init_4 : decode cX3_init 4 = .ok (.aload_n 0, 1) := dk_42 (dk_at dksX3_init_0 4 rfl rfl)
theorem dX3_init_5 : decode cX3_init 5 = .ok (.bipush 16, 2) := dk_16 16 (dk_at dksX3_init_0 5 rfl rfl)
theorem dX3_init_7 : decode cX3_init 7 = .ok (.newarray .int, 2) := dk_188_10 (dk_at dksX3_init_0 7 rfl rfl)
theorem dX3_init_9 : decode cX3_init 9 = .ok (.putfield 9, 3) := dk_181 0 9 (dk_at dksX3_init_0 9 rfl rfl)
theorem dX3_init_12 : decode cX3_init 12 = .ok (.aload_n 0, 1) := dk_42 (dk_at dksX3_init_0 12 rfl rfl)
theorem dX3_init_13 : decode cX3_init 13 = .ok (.bipush 16, 2) := dk_16 16 (dk_at dksX3_init_0 13 rfl rfl)
theorem dX3_init_15 : decode cX3_init 15 = .ok (.newarray .int, 2) := dk_188_10 (dk_at dksX3_init_0 15 rfl rfl)
theorem dX3_init_17 : decode cX3_init 17 = .ok (.putfield 15, 3) := dk_181 0 15 (dk_at dksX3_init_0 17 rfl rfl)
theorem dX3_init_20 : decode cX3_init 20 = .ok (.aload_n 0, 1) := dk_42 (dk_at dksX3_init_0 20 rfl rfl)
theorem dX3_init_21 : decode cX3_init 21 = .ok (.new 18, 3) := dk_187 0 18 (dk_at dksX3_init_0 21 rfl rfl)
theorem dX3_init_24 : decode cX3_init 24 = .ok (.dup, 1) := dk_89 (dk_at dksX3_init_1 0 rfl rfl)
theorem dX3_init_25 : decode cX3_init 25 = .ok (.invokespecial 20, 3) := dk_183 0 20 (dk_at dksX3_init_1 1 rfl rfl)
theorem dX3_init_28 : decode cX3_init 28 = .ok (.putfield 21, 3) := dk_181 0 21 (dk_at dksX3_init_1 4 rfl rfl)
theorem dX3_init_31 : decode cX3_init 31 = .ok (.aload_n 0, 1) := dk_42 (dk_at dksX3_init_1 7 rfl rfl)
theorem dX3_init_32 : decode cX3_init 32 = .ok (.new 18, 3) := dk_187 0 18 (dk_at dksX3_init_1 8 rfl rfl)
theorem dX3_init_35 : decode cX3_init 35 = .ok (.dup, 1) := dk_89 (dk_at dksX3_init_1 11 rfl rfl)
theorem dX3_init_36 : decode cX3_init 36 = .ok (.invokespecial 20, 3) := dk_183 0 20 (dk_at dksX3_init_1 12 rfl rfl)
theorem dX3_init_39 : decode cX3_init 39 = .ok (.putfield 25, 3) := dk_181 0 25 (dk_at dksX3_init_1 15 rfl rfl)
theorem dX3_init_42 : decode cX3_init 42 = .ok (.aload_n 0, 1) := dk_42 (dk_at dksX3_init_1 18 rfl rfl)
theorem dX3_init_43 : decode cX3_init 43 = .ok (.bipush 20, 2) := dk_16 20 (dk_at dksX3_init_1 19 rfl rfl)
theorem dX3_init_45 : decode cX3_init 45 = .ok (.newarray .int, 2) := dk_188_10 (dk_at dksX3_init_1 21 rfl rfl)
theorem dX3_init_47 : decode cX3_init 47 = .ok (.putfield 28, 3) := dk_181 0 28 (dk_at dksX3_init_2 0 rfl rfl)
theorem dX3_init_50 : decode cX3_init 50 = .ok (.aload_n 0, 1) := dk_42 (dk_at dksX3_init_2 3 rfl rfl)
theorem dX3_init_51 : decode cX3_init 51 = .ok (.new 18, 3) := dk_187 0 18 (dk_at dksX3_init_2 4 rfl rfl)
theorem dX3_init_54 : decode cX3_init 54 = .ok (.dup, 1) := dk_89 (dk_at dksX3_init_2 7 rfl rfl)
theorem dX3_init_55 : decode cX3_init 55 = .ok (.invokespecial 20, 3) := dk_183 0 20 (dk_at dksX3_init_2 8 rfl rfl)
theorem dX3_init_58 : decode cX3_init 58 = .ok (.putfield 31, 3) := dk_181 0 31 (dk_at dksX3_init_2 11 rfl rfl)
theorem dX3_init_61 : decode cX3_init 61 = .ok (.return_, 1) := dk_177 (dk_at dksX3_init_2 14 rfl rfl)
abbrev cX3_put : ByteArray := prog_28_method_5_code
def yX3_put : MethodName := ⟨RX3, "put", "(IJJ)V"⟩
def dkwX3_put_0 : List UInt8 := [42, 180, 0, 9, 27, 32, 184, 0, 34, 79, 42, 180, 0, 15, 27, 22, 4, 184, 0, 34, 79, 177]
abbrev dktX3_put_0 : List UInt8 := dkwX3_put_0 ++ []
theorem dksX3_put_0 : cX3_put.data.toList.drop 0 = dktX3_put_0 := by decide +kernel
theorem dX3_put_0 : decode cX3_put 0 = .ok (.aload_n 0, 1) := dk_42 (dk_at dksX3_put_0 0 rfl rfl)
theorem dX3_put_1 : decode cX3_put 1 = .ok (.getfield 9, 3) := dk_180 0 9 (dk_at dksX3_put_0 1 rfl rfl)
theorem dX3_put_4 : decode cX3_put 4 = .ok (.iload_n 1, 1) := dk_27 (dk_at dksX3_put_0 4 rfl rfl)
theorem dX3_put_5 : decode cX3_put 5 = .ok (.lload_n 2, 1) := dk_32 (dk_at dksX3_put_0 5 rfl rfl)
theorem dX3_put_6 : decode cX3_put 6 = .ok (.invokestatic 34, 3) := dk_184 0 34 (dk_at dksX3_put_0 6 rfl rfl)
theorem dX3_put_9 : decode cX3_put 9 = .ok (.iastore, 1) := dk_79 (dk_at dksX3_put_0 9 rfl rfl)
theorem dX3_put_10 : decode cX3_put 10 = .ok (.aload_n 0, 1) := dk_42 (dk_at dksX3_put_0 10 rfl rfl)
theorem dX3_put_11 : decode cX3_put 11 = .ok (.getfield 15, 3) := dk_180 0 15 (dk_at dksX3_put_0 11 rfl rfl)
theorem dX3_put_14 : decode cX3_put 14 = .ok (.iload_n 1, 1) := dk_27 (dk_at dksX3_put_0 14 rfl rfl)
theorem dX3_put_15 : decode cX3_put 15 = .ok (.lload 4, 2) := dk_22 4 (dk_at dksX3_put_0 15 rfl rfl)
theorem dX3_put_17 : decode cX3_put 17 = .ok (.invokestatic 34, 3) := dk_184 0 34 (dk_at dksX3_put_0 17 rfl rfl)
theorem dX3_put_20 : decode cX3_put 20 = .ok (.iastore, 1) := dk_79 (dk_at dksX3_put_0 20 rfl rfl)
theorem dX3_put_21 : decode cX3_put 21 = .ok (.return_, 1) := dk_177 (dk_at dksX3_put_0 21 rfl rfl)
abbrev cX3_where : ByteArray := prog_28_method_7_code
def yX3_where : MethodName := ⟨RX3, "where", "()[I"⟩
def dkwX3_where_1 : List UInt8 := [16, 16, 16, 16, 184, 0, 89, 43, 176]
abbrev dktX3_where_1 : List UInt8 := dkwX3_where_1 ++ []
def dkwX3_where_0 : List UInt8 := [16, 32, 188, 10, 76, 42, 180, 0, 9, 3, 43, 3, 16, 16, 184, 0, 89, 42, 180, 0, 15, 3, 43]
abbrev dktX3_where_0 : List UInt8 := dkwX3_where_0 ++ dktX3_where_1
theorem dksX3_where_0 : cX3_where.data.toList.drop 0 = dktX3_where_0 := by decide +kernel
theorem dksX3_where_1 : cX3_where.data.toList.drop 23 = dktX3_where_1 := dk_seg dksX3_where_0 23 rfl rfl
theorem dX3_where_0 : decode cX3_where 0 = .ok (.bipush 32, 2) := dk_16 32 (dk_at dksX3_where_0 0 rfl rfl)
theorem dX3_where_2 : decode cX3_where 2 = .ok (.newarray .int, 2) := dk_188_10 (dk_at dksX3_where_0 2 rfl rfl)
theorem dX3_where_4 : decode cX3_where 4 = .ok (.astore_n 1, 1) := dk_76 (dk_at dksX3_where_0 4 rfl rfl)
theorem dX3_where_5 : decode cX3_where 5 = .ok (.aload_n 0, 1) := dk_42 (dk_at dksX3_where_0 5 rfl rfl)
theorem dX3_where_6 : decode cX3_where 6 = .ok (.getfield 9, 3) := dk_180 0 9 (dk_at dksX3_where_0 6 rfl rfl)
theorem dX3_where_9 : decode cX3_where 9 = .ok (.iconst 0, 1) := dk_3 (dk_at dksX3_where_0 9 rfl rfl)
theorem dX3_where_10 : decode cX3_where 10 = .ok (.aload_n 1, 1) := dk_43 (dk_at dksX3_where_0 10 rfl rfl)
theorem dX3_where_11 : decode cX3_where 11 = .ok (.iconst 0, 1) := dk_3 (dk_at dksX3_where_0 11 rfl rfl)
theorem dX3_where_12 : decode cX3_where 12 = .ok (.bipush 16, 2) := dk_16 16 (dk_at dksX3_where_0 12 rfl rfl)
theorem dX3_where_14 : decode cX3_where 14 = .ok (.invokestatic 89, 3) := dk_184 0 89 (dk_at dksX3_where_0 14 rfl rfl)
theorem dX3_where_17 : decode cX3_where 17 = .ok (.aload_n 0, 1) := dk_42 (dk_at dksX3_where_0 17 rfl rfl)
theorem dX3_where_18 : decode cX3_where 18 = .ok (.getfield 15, 3) := dk_180 0 15 (dk_at dksX3_where_0 18 rfl rfl)
theorem dX3_where_21 : decode cX3_where 21 = .ok (.iconst 0, 1) := dk_3 (dk_at dksX3_where_0 21 rfl rfl)
theorem dX3_where_22 : decode cX3_where 22 = .ok (.aload_n 1, 1) := dk_43 (dk_at dksX3_where_0 22 rfl rfl)
theorem dX3_where_23 : decode cX3_where 23 = .ok (.bipush 16, 2) := dk_16 16 (dk_at dksX3_where_1 0 rfl rfl)
theorem dX3_where_25 : decode cX3_where 25 = .ok (.bipush 16, 2) := dk_16 16 (dk_at dksX3_where_1 2 rfl rfl)
theorem dX3_where_27 : decode cX3_where 27 = .ok (.invokestatic 89, 3) := dk_184 0 89 (dk_at dksX3_where_1 4 rfl rfl)
theorem dX3_where_30 : decode cX3_where 30 = .ok (.aload_n 1, 1) := dk_43 (dk_at dksX3_where_1 7 rfl rfl)
theorem dX3_where_31 : decode cX3_where 31 = .ok (.areturn, 1) := dk_176 (dk_at dksX3_where_1 8 rfl rfl)
abbrev cX3_keep : ByteArray := prog_28_method_9_code
def yX3_keep : MethodName := ⟨RX3, "keep", "([I)V"⟩
def dkwX3_keep_1 : List UInt8 := [180, 0, 31, 3, 182, 0, 99, 87, 177]
abbrev dktX3_keep_1 : List UInt8 := dkwX3_keep_1 ++ []
def dkwX3_keep_0 : List UInt8 := [42, 180, 0, 31, 43, 182, 0, 66, 87, 42, 180, 0, 31, 182, 0, 95, 16, 12, 164, 0, 12, 42]
abbrev dktX3_keep_0 : List UInt8 := dkwX3_keep_0 ++ dktX3_keep_1
theorem dksX3_keep_0 : cX3_keep.data.toList.drop 0 = dktX3_keep_0 := by decide +kernel
theorem dksX3_keep_1 : cX3_keep.data.toList.drop 22 = dktX3_keep_1 := dk_seg dksX3_keep_0 22 rfl rfl
theorem dX3_keep_0 : decode cX3_keep 0 = .ok (.aload_n 0, 1) := dk_42 (dk_at dksX3_keep_0 0 rfl rfl)
theorem dX3_keep_1 : decode cX3_keep 1 = .ok (.getfield 31, 3) := dk_180 0 31 (dk_at dksX3_keep_0 1 rfl rfl)
theorem dX3_keep_4 : decode cX3_keep 4 = .ok (.aload_n 1, 1) := dk_43 (dk_at dksX3_keep_0 4 rfl rfl)
theorem dX3_keep_5 : decode cX3_keep 5 = .ok (.invokevirtual 66, 3) := dk_182 0 66 (dk_at dksX3_keep_0 5 rfl rfl)
theorem dX3_keep_8 : decode cX3_keep 8 = .ok (.pop, 1) := dk_87 (dk_at dksX3_keep_0 8 rfl rfl)
theorem dX3_keep_9 : decode cX3_keep 9 = .ok (.aload_n 0, 1) := dk_42 (dk_at dksX3_keep_0 9 rfl rfl)
theorem dX3_keep_10 : decode cX3_keep 10 = .ok (.getfield 31, 3) := dk_180 0 31 (dk_at dksX3_keep_0 10 rfl rfl)
theorem dX3_keep_13 : decode cX3_keep 13 = .ok (.invokevirtual 95, 3) := dk_182 0 95 (dk_at dksX3_keep_0 13 rfl rfl)
theorem dX3_keep_16 : decode cX3_keep 16 = .ok (.bipush 12, 2) := dk_16 12 (dk_at dksX3_keep_0 16 rfl rfl)
theorem dX3_keep_18 : decode cX3_keep 18 = .ok (.if_icmp .le 12, 3) := dk_164 0 12 (dk_at dksX3_keep_0 18 rfl rfl)
theorem dX3_keep_21 : decode cX3_keep 21 = .ok (.aload_n 0, 1) := dk_42 (dk_at dksX3_keep_0 21 rfl rfl)
theorem dX3_keep_22 : decode cX3_keep 22 = .ok (.getfield 31, 3) := dk_180 0 31 (dk_at dksX3_keep_1 0 rfl rfl)
theorem dX3_keep_25 : decode cX3_keep 25 = .ok (.iconst 0, 1) := dk_3 (dk_at dksX3_keep_1 3 rfl rfl)
theorem dX3_keep_26 : decode cX3_keep 26 = .ok (.invokevirtual 99, 3) := dk_182 0 99 (dk_at dksX3_keep_1 4 rfl rfl)
theorem dX3_keep_29 : decode cX3_keep 29 = .ok (.pop, 1) := dk_87 (dk_at dksX3_keep_1 7 rfl rfl)
theorem dX3_keep_30 : decode cX3_keep 30 = .ok (.return_, 1) := dk_177 (dk_at dksX3_keep_1 8 rfl rfl)
abbrev cX3_run : ByteArray := prog_28_method_11_code
def yX3_run : MethodName := ⟨RX3, "run", "()I"⟩
def dkwX3_run_1 : List UInt8 := [4, 167, 0, 4, 3, 96, 60, 132, 2, 1, 167, 255, 226, 27, 172]
abbrev dktX3_run_1 : List UInt8 := dkwX3_run_1 ++ []
def dkwX3_run_0 : List UInt8 := [3, 60, 3, 61, 28, 42, 180, 0, 25, 182, 0, 95, 162, 0, 25, 27, 42, 28, 182, 0, 128, 153, 0, 7]
abbrev dktX3_run_0 : List UInt8 := dkwX3_run_0 ++ dktX3_run_1
theorem dksX3_run_0 : cX3_run.data.toList.drop 0 = dktX3_run_0 := by decide +kernel
theorem dksX3_run_1 : cX3_run.data.toList.drop 24 = dktX3_run_1 := dk_seg dksX3_run_0 24 rfl rfl
theorem dX3_run_0 : decode cX3_run 0 = .ok (.iconst 0, 1) := dk_3 (dk_at dksX3_run_0 0 rfl rfl)
theorem dX3_run_1 : decode cX3_run 1 = .ok (.istore_n 1, 1) := dk_60 (dk_at dksX3_run_0 1 rfl rfl)
theorem dX3_run_2 : decode cX3_run 2 = .ok (.iconst 0, 1) := dk_3 (dk_at dksX3_run_0 2 rfl rfl)
theorem dX3_run_3 : decode cX3_run 3 = .ok (.istore_n 2, 1) := dk_61 (dk_at dksX3_run_0 3 rfl rfl)
theorem dX3_run_4 : decode cX3_run 4 = .ok (.iload_n 2, 1) := dk_28 (dk_at dksX3_run_0 4 rfl rfl)
theorem dX3_run_5 : decode cX3_run 5 = .ok (.aload_n 0, 1) := dk_42 (dk_at dksX3_run_0 5 rfl rfl)
theorem dX3_run_6 : decode cX3_run 6 = .ok (.getfield 25, 3) := dk_180 0 25 (dk_at dksX3_run_0 6 rfl rfl)
theorem dX3_run_9 : decode cX3_run 9 = .ok (.invokevirtual 95, 3) := dk_182 0 95 (dk_at dksX3_run_0 9 rfl rfl)
theorem dX3_run_12 : decode cX3_run 12 = .ok (.if_icmp .ge 25, 3) := dk_162 0 25 (dk_at dksX3_run_0 12 rfl rfl)
theorem dX3_run_15 : decode cX3_run 15 = .ok (.iload_n 1, 1) := dk_27 (dk_at dksX3_run_0 15 rfl rfl)
theorem dX3_run_16 : decode cX3_run 16 = .ok (.aload_n 0, 1) := dk_42 (dk_at dksX3_run_0 16 rfl rfl)
theorem dX3_run_17 : decode cX3_run 17 = .ok (.iload_n 2, 1) := dk_28 (dk_at dksX3_run_0 17 rfl rfl)
theorem dX3_run_18 : decode cX3_run 18 = .ok (.invokevirtual 128, 3) := dk_182 0 128 (dk_at dksX3_run_0 18 rfl rfl)
theorem dX3_run_21 : decode cX3_run 21 = .ok (.ifCond .eq 7, 3) := dk_153 0 7 (dk_at dksX3_run_0 21 rfl rfl)
theorem dX3_run_24 : decode cX3_run 24 = .ok (.iconst 1, 1) := dk_4 (dk_at dksX3_run_1 0 rfl rfl)
theorem dX3_run_25 : decode cX3_run 25 = .ok (.goto 4, 3) := dk_167 0 4 (dk_at dksX3_run_1 1 rfl rfl)
theorem dX3_run_28 : decode cX3_run 28 = .ok (.iconst 0, 1) := dk_3 (dk_at dksX3_run_1 4 rfl rfl)
theorem dX3_run_29 : decode cX3_run 29 = .ok (.iadd, 1) := dk_96 (dk_at dksX3_run_1 5 rfl rfl)
theorem dX3_run_30 : decode cX3_run 30 = .ok (.istore_n 1, 1) := dk_60 (dk_at dksX3_run_1 6 rfl rfl)
theorem dX3_run_31 : decode cX3_run 31 = .ok (.iinc 2 1, 3) := dk_132 2 1 (dk_at dksX3_run_1 7 rfl rfl)
theorem dX3_run_34 : decode cX3_run 34 = .ok (.goto (-30), 3) := dk_167 255 226 (dk_at dksX3_run_1 10 rfl rfl)
theorem dX3_run_37 : decode cX3_run 37 = .ok (.iload_n 1, 1) := dk_27 (dk_at dksX3_run_1 13 rfl rfl)
theorem dX3_run_38 : decode cX3_run 38 = .ok (.ireturn, 1) := dk_172 (dk_at dksX3_run_1 14 rfl rfl)
abbrev cX3_carry : ByteArray := prog_28_method_10_code
def yX3_carry : MethodName := ⟨RX3, "carry", "(I)Z"⟩
def dkwX3_carry_2 : List UInt8 := [4, 172]
abbrev dktX3_carry_2 : List UInt8 := dkwX3_carry_2 ++ []
def dkwX3_carry_1 : List UInt8 := [154, 0, 5, 3, 172, 44, 180, 0, 118, 42, 44, 182, 0, 122, 42, 180, 0, 28, 27, 92, 46, 4, 96, 79]
abbrev dktX3_carry_1 : List UInt8 := dkwX3_carry_1 ++ dktX3_carry_2
def dkwX3_carry_0 : List UInt8 := [42, 180, 0, 25, 27, 182, 0, 103, 192, 0, 106, 77, 44, 180, 0, 108, 42, 185, 0, 112, 2, 0]
abbrev dktX3_carry_0 : List UInt8 := dkwX3_carry_0 ++ dktX3_carry_1
theorem dksX3_carry_0 : cX3_carry.data.toList.drop 0 = dktX3_carry_0 := by decide +kernel
theorem dksX3_carry_1 : cX3_carry.data.toList.drop 22 = dktX3_carry_1 := dk_seg dksX3_carry_0 22 rfl rfl
theorem dksX3_carry_2 : cX3_carry.data.toList.drop 46 = dktX3_carry_2 := dk_seg dksX3_carry_1 24 rfl rfl
theorem dX3_carry_0 : decode cX3_carry 0 = .ok (.aload_n 0, 1) := dk_42 (dk_at dksX3_carry_0 0 rfl rfl)
theorem dX3_carry_1 : decode cX3_carry 1 = .ok (.getfield 25, 3) := dk_180 0 25 (dk_at dksX3_carry_0 1 rfl rfl)
theorem dX3_carry_4 : decode cX3_carry 4 = .ok (.iload_n 1, 1) := dk_27 (dk_at dksX3_carry_0 4 rfl rfl)
theorem dX3_carry_5 : decode cX3_carry 5 = .ok (.invokevirtual 103, 3) := dk_182 0 103 (dk_at dksX3_carry_0 5 rfl rfl)
theorem dX3_carry_8 : decode cX3_carry 8 = .ok (.checkcast 106, 3) := dk_192 0 106 (dk_at dksX3_carry_0 8 rfl rfl)
theorem dX3_carry_11 : decode cX3_carry 11 = .ok (.astore_n 2, 1) := dk_77 (dk_at dksX3_carry_0 11 rfl rfl)
theorem dX3_carry_12 : decode cX3_carry 12 = .ok (.aload_n 2, 1) := dk_44 (dk_at dksX3_carry_0 12 rfl rfl)
theorem dX3_carry_13 : decode cX3_carry 13 = .ok (.getfield 108, 3) := dk_180 0 108 (dk_at dksX3_carry_0 13 rfl rfl)
theorem dX3_carry_16 : decode cX3_carry 16 = .ok (.aload_n 0, 1) := dk_42 (dk_at dksX3_carry_0 16 rfl rfl)
theorem dX3_carry_17 : decode cX3_carry 17 = .ok (.invokeinterface 112 2, 5) := by decide +kernel
theorem dX3_carry_22 : decode cX3_carry 22 = .ok (.ifCond .ne 5, 3) := dk_154 0 5 (dk_at dksX3_carry_1 0 rfl rfl)
theorem dX3_carry_25 : decode cX3_carry 25 = .ok (.iconst 0, 1) := dk_3 (dk_at dksX3_carry_1 3 rfl rfl)
theorem dX3_carry_26 : decode cX3_carry 26 = .ok (.ireturn, 1) := dk_172 (dk_at dksX3_carry_1 4 rfl rfl)
theorem dX3_carry_27 : decode cX3_carry 27 = .ok (.aload_n 2, 1) := dk_44 (dk_at dksX3_carry_1 5 rfl rfl)
theorem dX3_carry_28 : decode cX3_carry 28 = .ok (.getfield 118, 3) := dk_180 0 118 (dk_at dksX3_carry_1 6 rfl rfl)
theorem dX3_carry_31 : decode cX3_carry 31 = .ok (.aload_n 0, 1) := dk_42 (dk_at dksX3_carry_1 9 rfl rfl)
theorem dX3_carry_32 : decode cX3_carry 32 = .ok (.aload_n 2, 1) := dk_44 (dk_at dksX3_carry_1 10 rfl rfl)
theorem dX3_carry_33 : decode cX3_carry 33 = .ok (.invokevirtual 122, 3) := dk_182 0 122 (dk_at dksX3_carry_1 11 rfl rfl)
theorem dX3_carry_36 : decode cX3_carry 36 = .ok (.aload_n 0, 1) := dk_42 (dk_at dksX3_carry_1 14 rfl rfl)
theorem dX3_carry_37 : decode cX3_carry 37 = .ok (.getfield 28, 3) := dk_180 0 28 (dk_at dksX3_carry_1 15 rfl rfl)
theorem dX3_carry_40 : decode cX3_carry 40 = .ok (.iload_n 1, 1) := dk_27 (dk_at dksX3_carry_1 18 rfl rfl)
theorem dX3_carry_41 : decode cX3_carry 41 = .ok (.dup2, 1) := dk_92 (dk_at dksX3_carry_1 19 rfl rfl)
theorem dX3_carry_42 : decode cX3_carry 42 = .ok (.iaload, 1) := dk_46 (dk_at dksX3_carry_1 20 rfl rfl)
theorem dX3_carry_43 : decode cX3_carry 43 = .ok (.iconst 1, 1) := dk_4 (dk_at dksX3_carry_1 21 rfl rfl)
theorem dX3_carry_44 : decode cX3_carry 44 = .ok (.iadd, 1) := dk_96 (dk_at dksX3_carry_1 22 rfl rfl)
theorem dX3_carry_45 : decode cX3_carry 45 = .ok (.iastore, 1) := dk_79 (dk_at dksX3_carry_1 23 rfl rfl)
theorem dX3_carry_46 : decode cX3_carry 46 = .ok (.iconst 1, 1) := dk_4 (dk_at dksX3_carry_2 0 rfl rfl)
theorem dX3_carry_47 : decode cX3_carry 47 = .ok (.ireturn, 1) := dk_172 (dk_at dksX3_carry_2 1 rfl rfl)
abbrev cX3_areas : ByteArray := prog_28_method_12_code
def yX3_areas : MethodName := ⟨RX3, "areas", "()I"⟩
def dkwX3_areas_1 : List UInt8 := [185, 0, 51, 1, 0, 192, 0, 55, 78, 27, 45, 182, 0, 131, 184, 0, 134, 96, 60, 167, 255, 227, 27, 172]
abbrev dktX3_areas_1 : List UInt8 := dkwX3_areas_1 ++ []
def dkwX3_areas_0 : List UInt8 := [3, 60, 42, 180, 0, 21, 182, 0, 41, 77, 44, 185, 0, 45, 1, 0, 153, 0, 26, 44]
abbrev dktX3_areas_0 : List UInt8 := dkwX3_areas_0 ++ dktX3_areas_1
theorem dksX3_areas_0 : cX3_areas.data.toList.drop 0 = dktX3_areas_0 := by decide +kernel
theorem dksX3_areas_1 : cX3_areas.data.toList.drop 20 = dktX3_areas_1 := dk_seg dksX3_areas_0 20 rfl rfl
theorem dX3_areas_0 : decode cX3_areas 0 = .ok (.iconst 0, 1) := dk_3 (dk_at dksX3_areas_0 0 rfl rfl)
theorem dX3_areas_1 : decode cX3_areas 1 = .ok (.istore_n 1, 1) := dk_60 (dk_at dksX3_areas_0 1 rfl rfl)
theorem dX3_areas_2 : decode cX3_areas 2 = .ok (.aload_n 0, 1) := dk_42 (dk_at dksX3_areas_0 2 rfl rfl)
theorem dX3_areas_3 : decode cX3_areas 3 = .ok (.getfield 21, 3) := dk_180 0 21 (dk_at dksX3_areas_0 3 rfl rfl)
theorem dX3_areas_6 : decode cX3_areas 6 = .ok (.invokevirtual 41, 3) := dk_182 0 41 (dk_at dksX3_areas_0 6 rfl rfl)
theorem dX3_areas_9 : decode cX3_areas 9 = .ok (.astore_n 2, 1) := dk_77 (dk_at dksX3_areas_0 9 rfl rfl)
theorem dX3_areas_10 : decode cX3_areas 10 = .ok (.aload_n 2, 1) := dk_44 (dk_at dksX3_areas_0 10 rfl rfl)
theorem dX3_areas_11 : decode cX3_areas 11 = .ok (.invokeinterface 45 1, 5) := by decide +kernel
theorem dX3_areas_16 : decode cX3_areas 16 = .ok (.ifCond .eq 26, 3) := dk_153 0 26 (dk_at dksX3_areas_0 16 rfl rfl)
theorem dX3_areas_19 : decode cX3_areas 19 = .ok (.aload_n 2, 1) := dk_44 (dk_at dksX3_areas_0 19 rfl rfl)
theorem dX3_areas_20 : decode cX3_areas 20 = .ok (.invokeinterface 51 1, 5) := by decide +kernel
theorem dX3_areas_25 : decode cX3_areas 25 = .ok (.checkcast 55, 3) := dk_192 0 55 (dk_at dksX3_areas_1 5 rfl rfl)
theorem dX3_areas_28 : decode cX3_areas 28 = .ok (.astore_n 3, 1) := dk_78 (dk_at dksX3_areas_1 8 rfl rfl)
theorem dX3_areas_29 : decode cX3_areas 29 = .ok (.iload_n 1, 1) := dk_27 (dk_at dksX3_areas_1 9 rfl rfl)
theorem dX3_areas_30 : decode cX3_areas 30 = .ok (.aload_n 3, 1) := dk_45 (dk_at dksX3_areas_1 10 rfl rfl)
theorem dX3_areas_31 : decode cX3_areas 31 = .ok (.invokevirtual 131, 3) := dk_182 0 131 (dk_at dksX3_areas_1 11 rfl rfl)
theorem dX3_areas_34 : decode cX3_areas 34 = .ok (.invokestatic 134, 3) := dk_184 0 134 (dk_at dksX3_areas_1 14 rfl rfl)
theorem dX3_areas_37 : decode cX3_areas 37 = .ok (.iadd, 1) := dk_96 (dk_at dksX3_areas_1 17 rfl rfl)
theorem dX3_areas_38 : decode cX3_areas 38 = .ok (.istore_n 1, 1) := dk_60 (dk_at dksX3_areas_1 18 rfl rfl)
theorem dX3_areas_39 : decode cX3_areas 39 = .ok (.goto (-29), 3) := dk_167 255 227 (dk_at dksX3_areas_1 19 rfl rfl)
theorem dX3_areas_42 : decode cX3_areas 42 = .ok (.iload_n 1, 1) := dk_27 (dk_at dksX3_areas_1 22 rfl rfl)
theorem dX3_areas_43 : decode cX3_areas 43 = .ok (.ireturn, 1) := dk_172 (dk_at dksX3_areas_1 23 rfl rfl)
abbrev cX3_crossings : ByteArray := prog_28_method_13_code
def yX3_crossings : MethodName := ⟨RX3, "crossings", "()I"⟩
def dkwX3_crossings_2 : List UInt8 := [96, 60, 132, 3, 1, 167, 255, 220, 132, 2, 1, 167, 255, 201, 27, 172]
abbrev dktX3_crossings_2 : List UInt8 := dkwX3_crossings_2 ++ []
def dkwX3_crossings_1 : List UInt8 := [180, 0, 21, 28, 182, 0, 103, 192, 0, 55, 42, 180, 0, 21, 29, 182, 0, 103, 192, 0, 55, 182, 0, 140]
abbrev dktX3_crossings_1 : List UInt8 := dkwX3_crossings_1 ++ dktX3_crossings_2
def dkwX3_crossings_0 : List UInt8 := [3, 60, 3, 61, 28, 42, 180, 0, 21, 182, 0, 95, 162, 0, 50, 3, 62, 29, 28, 163, 0, 37, 27, 42]
abbrev dktX3_crossings_0 : List UInt8 := dkwX3_crossings_0 ++ dktX3_crossings_1
theorem dksX3_crossings_0 : cX3_crossings.data.toList.drop 0 = dktX3_crossings_0 := by decide +kernel
theorem dksX3_crossings_1 : cX3_crossings.data.toList.drop 24 = dktX3_crossings_1 := dk_seg dksX3_crossings_0 24 rfl rfl
theorem dksX3_crossings_2 : cX3_crossings.data.toList.drop 48 = dktX3_crossings_2 := dk_seg dksX3_crossings_1 24 rfl rfl
theorem dX3_crossings_0 : decode cX3_crossings 0 = .ok (.iconst 0, 1) := dk_3 (dk_at dksX3_crossings_0 0 rfl rfl)
theorem dX3_crossings_1 : decode cX3_crossings 1 = .ok (.istore_n 1, 1) := dk_60 (dk_at dksX3_crossings_0 1 rfl rfl)
theorem dX3_crossings_2 : decode cX3_crossings 2 = .ok (.iconst 0, 1) := dk_3 (dk_at dksX3_crossings_0 2 rfl rfl)
theorem dX3_crossings_3 : decode cX3_crossings 3 = .ok (.istore_n 2, 1) := dk_61 (dk_at dksX3_crossings_0 3 rfl rfl)
theorem dX3_crossings_4 : decode cX3_crossings 4 = .ok (.iload_n 2, 1) := dk_28 (dk_at dksX3_crossings_0 4 rfl rfl)
theorem dX3_crossings_5 : decode cX3_crossings 5 = .ok (.aload_n 0, 1) := dk_42 (dk_at dksX3_crossings_0 5 rfl rfl)
theorem dX3_crossings_6 : decode cX3_crossings 6 = .ok (.getfield 21, 3) := dk_180 0 21 (dk_at dksX3_crossings_0 6 rfl rfl)
theorem dX3_crossings_9 : decode cX3_crossings 9 = .ok (.invokevirtual 95, 3) := dk_182 0 95 (dk_at dksX3_crossings_0 9 rfl rfl)
theorem dX3_crossings_12 : decode cX3_crossings 12 = .ok (.if_icmp .ge 50, 3) := dk_162 0 50 (dk_at dksX3_crossings_0 12 rfl rfl)
theorem dX3_crossings_15 : decode cX3_crossings 15 = .ok (.iconst 0, 1) := dk_3 (dk_at dksX3_crossings_0 15 rfl rfl)
theorem dX3_crossings_16 : decode cX3_crossings 16 = .ok (.istore_n 3, 1) := dk_62 (dk_at dksX3_crossings_0 16 rfl rfl)
theorem dX3_crossings_17 : decode cX3_crossings 17 = .ok (.iload_n 3, 1) := dk_29 (dk_at dksX3_crossings_0 17 rfl rfl)
theorem dX3_crossings_18 : decode cX3_crossings 18 = .ok (.iload_n 2, 1) := dk_28 (dk_at dksX3_crossings_0 18 rfl rfl)
theorem dX3_crossings_19 : decode cX3_crossings 19 = .ok (.if_icmp .gt 37, 3) := dk_163 0 37 (dk_at dksX3_crossings_0 19 rfl rfl)
theorem dX3_crossings_22 : decode cX3_crossings 22 = .ok (.iload_n 1, 1) := dk_27 (dk_at dksX3_crossings_0 22 rfl rfl)
theorem dX3_crossings_23 : decode cX3_crossings 23 = .ok (.aload_n 0, 1) := dk_42 (dk_at dksX3_crossings_0 23 rfl rfl)
theorem dX3_crossings_24 : decode cX3_crossings 24 = .ok (.getfield 21, 3) := dk_180 0 21 (dk_at dksX3_crossings_1 0 rfl rfl)
theorem dX3_crossings_27 : decode cX3_crossings 27 = .ok (.iload_n 2, 1) := dk_28 (dk_at dksX3_crossings_1 3 rfl rfl)
theorem dX3_crossings_28 : decode cX3_crossings 28 = .ok (.invokevirtual 103, 3) := dk_182 0 103 (dk_at dksX3_crossings_1 4 rfl rfl)
theorem dX3_crossings_31 : decode cX3_crossings 31 = .ok (.checkcast 55, 3) := dk_192 0 55 (dk_at dksX3_crossings_1 7 rfl rfl)
theorem dX3_crossings_34 : decode cX3_crossings 34 = .ok (.aload_n 0, 1) := dk_42 (dk_at dksX3_crossings_1 10 rfl rfl)
theorem dX3_crossings_35 : decode cX3_crossings 35 = .ok (.getfield 21, 3) := dk_180 0 21 (dk_at dksX3_crossings_1 11 rfl rfl)
theorem dX3_crossings_38 : decode cX3_crossings 38 = .ok (.iload_n 3, 1) := dk_29 (dk_at dksX3_crossings_1 14 rfl rfl)
theorem dX3_crossings_39 : decode cX3_crossings 39 = .ok (.invokevirtual 103, 3) := dk_182 0 103 (dk_at dksX3_crossings_1 15 rfl rfl)
theorem dX3_crossings_42 : decode cX3_crossings 42 = .ok (.checkcast 55, 3) := dk_192 0 55 (dk_at dksX3_crossings_1 18 rfl rfl)
theorem dX3_crossings_45 : decode cX3_crossings 45 = .ok (.invokevirtual 140, 3) := dk_182 0 140 (dk_at dksX3_crossings_1 21 rfl rfl)
theorem dX3_crossings_48 : decode cX3_crossings 48 = .ok (.iadd, 1) := dk_96 (dk_at dksX3_crossings_2 0 rfl rfl)
theorem dX3_crossings_49 : decode cX3_crossings 49 = .ok (.istore_n 1, 1) := dk_60 (dk_at dksX3_crossings_2 1 rfl rfl)
theorem dX3_crossings_50 : decode cX3_crossings 50 = .ok (.iinc 3 1, 3) := dk_132 3 1 (dk_at dksX3_crossings_2 2 rfl rfl)
theorem dX3_crossings_53 : decode cX3_crossings 53 = .ok (.goto (-36), 3) := dk_167 255 220 (dk_at dksX3_crossings_2 5 rfl rfl)
theorem dX3_crossings_56 : decode cX3_crossings 56 = .ok (.iinc 2 1, 3) := dk_132 2 1 (dk_at dksX3_crossings_2 8 rfl rfl)
theorem dX3_crossings_59 : decode cX3_crossings 59 = .ok (.goto (-55), 3) := dk_167 255 201 (dk_at dksX3_crossings_2 11 rfl rfl)
theorem dX3_crossings_62 : decode cX3_crossings 62 = .ok (.iload_n 1, 1) := dk_27 (dk_at dksX3_crossings_2 14 rfl rfl)
theorem dX3_crossings_63 : decode cX3_crossings 63 = .ok (.ireturn, 1) := dk_172 (dk_at dksX3_crossings_2 15 rfl rfl)
abbrev cX3_inside : ByteArray := prog_28_method_15_code
def yX3_inside : MethodName := ⟨RX3, "inside", "()I"⟩
def dkwX3_inside_1 : List UInt8 := [167, 0, 4, 3, 96, 60, 132, 2, 1, 167, 255, 229, 27, 172]
abbrev dktX3_inside_1 : List UInt8 := dkwX3_inside_1 ++ []
def dkwX3_inside_0 : List UInt8 := [3, 60, 3, 61, 28, 42, 180, 0, 85, 162, 0, 25, 27, 42, 28, 182, 0, 148, 158, 0, 7, 4]
abbrev dktX3_inside_0 : List UInt8 := dkwX3_inside_0 ++ dktX3_inside_1
theorem dksX3_inside_0 : cX3_inside.data.toList.drop 0 = dktX3_inside_0 := by decide +kernel
theorem dksX3_inside_1 : cX3_inside.data.toList.drop 22 = dktX3_inside_1 := dk_seg dksX3_inside_0 22 rfl rfl
theorem dX3_inside_0 : decode cX3_inside 0 = .ok (.iconst 0, 1) := dk_3 (dk_at dksX3_inside_0 0 rfl rfl)
theorem dX3_inside_1 : decode cX3_inside 1 = .ok (.istore_n 1, 1) := dk_60 (dk_at dksX3_inside_0 1 rfl rfl)
theorem dX3_inside_2 : decode cX3_inside 2 = .ok (.iconst 0, 1) := dk_3 (dk_at dksX3_inside_0 2 rfl rfl)
theorem dX3_inside_3 : decode cX3_inside 3 = .ok (.istore_n 2, 1) := dk_61 (dk_at dksX3_inside_0 3 rfl rfl)
theorem dX3_inside_4 : decode cX3_inside 4 = .ok (.iload_n 2, 1) := dk_28 (dk_at dksX3_inside_0 4 rfl rfl)
theorem dX3_inside_5 : decode cX3_inside 5 = .ok (.aload_n 0, 1) := dk_42 (dk_at dksX3_inside_0 5 rfl rfl)
theorem dX3_inside_6 : decode cX3_inside 6 = .ok (.getfield 85, 3) := dk_180 0 85 (dk_at dksX3_inside_0 6 rfl rfl)
theorem dX3_inside_9 : decode cX3_inside 9 = .ok (.if_icmp .ge 25, 3) := dk_162 0 25 (dk_at dksX3_inside_0 9 rfl rfl)
theorem dX3_inside_12 : decode cX3_inside 12 = .ok (.iload_n 1, 1) := dk_27 (dk_at dksX3_inside_0 12 rfl rfl)
theorem dX3_inside_13 : decode cX3_inside 13 = .ok (.aload_n 0, 1) := dk_42 (dk_at dksX3_inside_0 13 rfl rfl)
theorem dX3_inside_14 : decode cX3_inside 14 = .ok (.iload_n 2, 1) := dk_28 (dk_at dksX3_inside_0 14 rfl rfl)
theorem dX3_inside_15 : decode cX3_inside 15 = .ok (.invokevirtual 148, 3) := dk_182 0 148 (dk_at dksX3_inside_0 15 rfl rfl)
theorem dX3_inside_18 : decode cX3_inside 18 = .ok (.ifCond .le 7, 3) := dk_158 0 7 (dk_at dksX3_inside_0 18 rfl rfl)
theorem dX3_inside_21 : decode cX3_inside 21 = .ok (.iconst 1, 1) := dk_4 (dk_at dksX3_inside_0 21 rfl rfl)
theorem dX3_inside_22 : decode cX3_inside 22 = .ok (.goto 4, 3) := dk_167 0 4 (dk_at dksX3_inside_1 0 rfl rfl)
theorem dX3_inside_25 : decode cX3_inside 25 = .ok (.iconst 0, 1) := dk_3 (dk_at dksX3_inside_1 3 rfl rfl)
theorem dX3_inside_26 : decode cX3_inside 26 = .ok (.iadd, 1) := dk_96 (dk_at dksX3_inside_1 4 rfl rfl)
theorem dX3_inside_27 : decode cX3_inside 27 = .ok (.istore_n 1, 1) := dk_60 (dk_at dksX3_inside_1 5 rfl rfl)
theorem dX3_inside_28 : decode cX3_inside 28 = .ok (.iinc 2 1, 3) := dk_132 2 1 (dk_at dksX3_inside_1 6 rfl rfl)
theorem dX3_inside_31 : decode cX3_inside 31 = .ok (.goto (-27), 3) := dk_167 255 229 (dk_at dksX3_inside_1 9 rfl rfl)
theorem dX3_inside_34 : decode cX3_inside 34 = .ok (.iload_n 1, 1) := dk_27 (dk_at dksX3_inside_1 12 rfl rfl)
theorem dX3_inside_35 : decode cX3_inside 35 = .ok (.ireturn, 1) := dk_172 (dk_at dksX3_inside_1 13 rfl rfl)
abbrev cX3_insideOf : ByteArray := prog_28_method_14_code
def yX3_insideOf : MethodName := ⟨RX3, "insideOf", "(I)I"⟩
def dkwX3_insideOf_2 : List UInt8 := [46, 182, 0, 144, 4, 160, 0, 7, 4, 167, 0, 4, 3, 96, 61, 167, 255, 207, 28, 172]
abbrev dktX3_insideOf_2 : List UInt8 := dkwX3_insideOf_2 ++ []
def dkwX3_insideOf_1 : List UInt8 := [185, 0, 51, 1, 0, 192, 0, 55, 58, 4, 28, 25, 4, 42, 180, 0, 9, 27, 46, 42, 180, 0, 15, 27]
abbrev dktX3_insideOf_1 : List UInt8 := dkwX3_insideOf_1 ++ dktX3_insideOf_2
def dkwX3_insideOf_0 : List UInt8 := [3, 61, 42, 180, 0, 21, 182, 0, 41, 78, 45, 185, 0, 45, 1, 0, 153, 0, 46, 45]
abbrev dktX3_insideOf_0 : List UInt8 := dkwX3_insideOf_0 ++ dktX3_insideOf_1
theorem dksX3_insideOf_0 : cX3_insideOf.data.toList.drop 0 = dktX3_insideOf_0 := by decide +kernel
theorem dksX3_insideOf_1 : cX3_insideOf.data.toList.drop 20 = dktX3_insideOf_1 := dk_seg dksX3_insideOf_0 20 rfl rfl
theorem dksX3_insideOf_2 : cX3_insideOf.data.toList.drop 44 = dktX3_insideOf_2 := dk_seg dksX3_insideOf_1 24 rfl rfl
theorem dX3_insideOf_0 : decode cX3_insideOf 0 = .ok (.iconst 0, 1) := dk_3 (dk_at dksX3_insideOf_0 0 rfl rfl)
theorem dX3_insideOf_1 : decode cX3_insideOf 1 = .ok (.istore_n 2, 1) := dk_61 (dk_at dksX3_insideOf_0 1 rfl rfl)
theorem dX3_insideOf_2 : decode cX3_insideOf 2 = .ok (.aload_n 0, 1) := dk_42 (dk_at dksX3_insideOf_0 2 rfl rfl)
theorem dX3_insideOf_3 : decode cX3_insideOf 3 = .ok (.getfield 21, 3) := dk_180 0 21 (dk_at dksX3_insideOf_0 3 rfl rfl)
theorem dX3_insideOf_6 : decode cX3_insideOf 6 = .ok (.invokevirtual 41, 3) := dk_182 0 41 (dk_at dksX3_insideOf_0 6 rfl rfl)
theorem dX3_insideOf_9 : decode cX3_insideOf 9 = .ok (.astore_n 3, 1) := dk_78 (dk_at dksX3_insideOf_0 9 rfl rfl)
theorem dX3_insideOf_10 : decode cX3_insideOf 10 = .ok (.aload_n 3, 1) := dk_45 (dk_at dksX3_insideOf_0 10 rfl rfl)
theorem dX3_insideOf_11 : decode cX3_insideOf 11 = .ok (.invokeinterface 45 1, 5) := by decide +kernel
theorem dX3_insideOf_16 : decode cX3_insideOf 16 = .ok (.ifCond .eq 46, 3) := dk_153 0 46 (dk_at dksX3_insideOf_0 16 rfl rfl)
theorem dX3_insideOf_19 : decode cX3_insideOf 19 = .ok (.aload_n 3, 1) := dk_45 (dk_at dksX3_insideOf_0 19 rfl rfl)
theorem dX3_insideOf_20 : decode cX3_insideOf 20 = .ok (.invokeinterface 51 1, 5) := by decide +kernel
theorem dX3_insideOf_25 : decode cX3_insideOf 25 = .ok (.checkcast 55, 3) := dk_192 0 55 (dk_at dksX3_insideOf_1 5 rfl rfl)
theorem dX3_insideOf_28 : decode cX3_insideOf 28 = .ok (.astore 4, 2) := dk_58 4 (dk_at dksX3_insideOf_1 8 rfl rfl)
theorem dX3_insideOf_30 : decode cX3_insideOf 30 = .ok (.iload_n 2, 1) := dk_28 (dk_at dksX3_insideOf_1 10 rfl rfl)
theorem dX3_insideOf_31 : decode cX3_insideOf 31 = .ok (.aload 4, 2) := dk_25 4 (dk_at dksX3_insideOf_1 11 rfl rfl)
theorem dX3_insideOf_33 : decode cX3_insideOf 33 = .ok (.aload_n 0, 1) := dk_42 (dk_at dksX3_insideOf_1 13 rfl rfl)
theorem dX3_insideOf_34 : decode cX3_insideOf 34 = .ok (.getfield 9, 3) := dk_180 0 9 (dk_at dksX3_insideOf_1 14 rfl rfl)
theorem dX3_insideOf_37 : decode cX3_insideOf 37 = .ok (.iload_n 1, 1) := dk_27 (dk_at dksX3_insideOf_1 17 rfl rfl)
theorem dX3_insideOf_38 : decode cX3_insideOf 38 = .ok (.iaload, 1) := dk_46 (dk_at dksX3_insideOf_1 18 rfl rfl)
theorem dX3_insideOf_39 : decode cX3_insideOf 39 = .ok (.aload_n 0, 1) := dk_42 (dk_at dksX3_insideOf_1 19 rfl rfl)
theorem dX3_insideOf_40 : decode cX3_insideOf 40 = .ok (.getfield 15, 3) := dk_180 0 15 (dk_at dksX3_insideOf_1 20 rfl rfl)
theorem dX3_insideOf_43 : decode cX3_insideOf 43 = .ok (.iload_n 1, 1) := dk_27 (dk_at dksX3_insideOf_1 23 rfl rfl)
theorem dX3_insideOf_44 : decode cX3_insideOf 44 = .ok (.iaload, 1) := dk_46 (dk_at dksX3_insideOf_2 0 rfl rfl)
theorem dX3_insideOf_45 : decode cX3_insideOf 45 = .ok (.invokevirtual 144, 3) := dk_182 0 144 (dk_at dksX3_insideOf_2 1 rfl rfl)
theorem dX3_insideOf_48 : decode cX3_insideOf 48 = .ok (.iconst 1, 1) := dk_4 (dk_at dksX3_insideOf_2 4 rfl rfl)
theorem dX3_insideOf_49 : decode cX3_insideOf 49 = .ok (.if_icmp .ne 7, 3) := dk_160 0 7 (dk_at dksX3_insideOf_2 5 rfl rfl)
theorem dX3_insideOf_52 : decode cX3_insideOf 52 = .ok (.iconst 1, 1) := dk_4 (dk_at dksX3_insideOf_2 8 rfl rfl)
theorem dX3_insideOf_53 : decode cX3_insideOf 53 = .ok (.goto 4, 3) := dk_167 0 4 (dk_at dksX3_insideOf_2 9 rfl rfl)
theorem dX3_insideOf_56 : decode cX3_insideOf 56 = .ok (.iconst 0, 1) := dk_3 (dk_at dksX3_insideOf_2 12 rfl rfl)
theorem dX3_insideOf_57 : decode cX3_insideOf 57 = .ok (.iadd, 1) := dk_96 (dk_at dksX3_insideOf_2 13 rfl rfl)
theorem dX3_insideOf_58 : decode cX3_insideOf 58 = .ok (.istore_n 2, 1) := dk_61 (dk_at dksX3_insideOf_2 14 rfl rfl)
theorem dX3_insideOf_59 : decode cX3_insideOf 59 = .ok (.goto (-49), 3) := dk_167 255 207 (dk_at dksX3_insideOf_2 15 rfl rfl)
theorem dX3_insideOf_62 : decode cX3_insideOf 62 = .ok (.iload_n 2, 1) := dk_28 (dk_at dksX3_insideOf_2 18 rfl rfl)
theorem dX3_insideOf_63 : decode cX3_insideOf 63 = .ok (.ireturn, 1) := dk_172 (dk_at dksX3_insideOf_2 19 rfl rfl)
abbrev cX3_isAhead : ByteArray := prog_28_method_3_code
def yX3_isAhead : MethodName := ⟨RX3, "isAhead", "(II)Z"⟩
def dkwX3_isAhead_3 : List UInt8 := [167, 0, 17, 3, 167, 0, 13, 27, 28, 162, 0, 7, 4, 167, 0, 4, 3, 172]
abbrev dktX3_isAhead_3 : List UInt8 := dkwX3_isAhead_3 ++ []
def dkwX3_isAhead_2 : List UInt8 := [180, 0, 15, 28, 46, 159, 0, 26, 42, 180, 0, 15, 27, 46, 42, 180, 0, 15, 28, 46, 162, 0, 7, 4]
abbrev dktX3_isAhead_2 : List UInt8 := dkwX3_isAhead_2 ++ dktX3_isAhead_3
def dkwX3_isAhead_1 : List UInt8 := [180, 0, 9, 28, 46, 162, 0, 7, 4, 167, 0, 55, 3, 167, 0, 51, 42, 180, 0, 15, 27, 46, 42]
abbrev dktX3_isAhead_1 : List UInt8 := dkwX3_isAhead_1 ++ dktX3_isAhead_2
def dkwX3_isAhead_0 : List UInt8 := [42, 180, 0, 9, 27, 46, 42, 180, 0, 9, 28, 46, 159, 0, 26, 42, 180, 0, 9, 27, 46, 42]
abbrev dktX3_isAhead_0 : List UInt8 := dkwX3_isAhead_0 ++ dktX3_isAhead_1
theorem dksX3_isAhead_0 : cX3_isAhead.data.toList.drop 0 = dktX3_isAhead_0 := by decide +kernel
theorem dksX3_isAhead_1 : cX3_isAhead.data.toList.drop 22 = dktX3_isAhead_1 := dk_seg dksX3_isAhead_0 22 rfl rfl
theorem dksX3_isAhead_2 : cX3_isAhead.data.toList.drop 45 = dktX3_isAhead_2 := dk_seg dksX3_isAhead_1 23 rfl rfl
theorem dksX3_isAhead_3 : cX3_isAhead.data.toList.drop 69 = dktX3_isAhead_3 := dk_seg dksX3_isAhead_2 24 rfl rfl
theorem dX3_isAhead_0 : decode cX3_isAhead 0 = .ok (.aload_n 0, 1) := dk_42 (dk_at dksX3_isAhead_0 0 rfl rfl)
theorem dX3_isAhead_1 : decode cX3_isAhead 1 = .ok (.getfield 9, 3) := dk_180 0 9 (dk_at dksX3_isAhead_0 1 rfl rfl)
theorem dX3_isAhead_4 : decode cX3_isAhead 4 = .ok (.iload_n 1, 1) := dk_27 (dk_at dksX3_isAhead_0 4 rfl rfl)
theorem dX3_isAhead_5 : decode cX3_isAhead 5 = .ok (.iaload, 1) := dk_46 (dk_at dksX3_isAhead_0 5 rfl rfl)
theorem dX3_isAhead_6 : decode cX3_isAhead 6 = .ok (.aload_n 0, 1) := dk_42 (dk_at dksX3_isAhead_0 6 rfl rfl)
theorem dX3_isAhead_7 : decode cX3_isAhead 7 = .ok (.getfield 9, 3) := dk_180 0 9 (dk_at dksX3_isAhead_0 7 rfl rfl)
theorem dX3_isAhead_10 : decode cX3_isAhead 10 = .ok (.iload_n 2, 1) := dk_28 (dk_at dksX3_isAhead_0 10 rfl rfl)
theorem dX3_isAhead_11 : decode cX3_isAhead 11 = .ok (.iaload, 1) := dk_46 (dk_at dksX3_isAhead_0 11 rfl rfl)
theorem dX3_isAhead_12 : decode cX3_isAhead 12 = .ok (.if_icmp .eq 26, 3) := dk_159 0 26 (dk_at dksX3_isAhead_0 12 rfl rfl)
theorem dX3_isAhead_15 : decode cX3_isAhead 15 = .ok (.aload_n 0, 1) := dk_42 (dk_at dksX3_isAhead_0 15 rfl rfl)
theorem dX3_isAhead_16 : decode cX3_isAhead 16 = .ok (.getfield 9, 3) := dk_180 0 9 (dk_at dksX3_isAhead_0 16 rfl rfl)
theorem dX3_isAhead_19 : decode cX3_isAhead 19 = .ok (.iload_n 1, 1) := dk_27 (dk_at dksX3_isAhead_0 19 rfl rfl)
theorem dX3_isAhead_20 : decode cX3_isAhead 20 = .ok (.iaload, 1) := dk_46 (dk_at dksX3_isAhead_0 20 rfl rfl)
theorem dX3_isAhead_21 : decode cX3_isAhead 21 = .ok (.aload_n 0, 1) := dk_42 (dk_at dksX3_isAhead_0 21 rfl rfl)
theorem dX3_isAhead_22 : decode cX3_isAhead 22 = .ok (.getfield 9, 3) := dk_180 0 9 (dk_at dksX3_isAhead_1 0 rfl rfl)
theorem dX3_isAhead_25 : decode cX3_isAhead 25 = .ok (.iload_n 2, 1) := dk_28 (dk_at dksX3_isAhead_1 3 rfl rfl)
theorem dX3_isAhead_26 : decode cX3_isAhead 26 = .ok (.iaload, 1) := dk_46 (dk_at dksX3_isAhead_1 4 rfl rfl)
theorem dX3_isAhead_27 : decode cX3_isAhead 27 = .ok (.if_icmp .ge 7, 3) := dk_162 0 7 (dk_at dksX3_isAhead_1 5 rfl rfl)
theorem dX3_isAhead_30 : decode cX3_isAhead 30 = .ok (.iconst 1, 1) := dk_4 (dk_at dksX3_isAhead_1 8 rfl rfl)
theorem dX3_isAhead_31 : decode cX3_isAhead 31 = .ok (.goto 55, 3) := dk_167 0 55 (dk_at dksX3_isAhead_1 9 rfl rfl)
theorem dX3_isAhead_34 : decode cX3_isAhead 34 = .ok (.iconst 0, 1) := dk_3 (dk_at dksX3_isAhead_1 12 rfl rfl)
theorem dX3_isAhead_35 : decode cX3_isAhead 35 = .ok (.goto 51, 3) := dk_167 0 51 (dk_at dksX3_isAhead_1 13 rfl rfl)
theorem dX3_isAhead_38 : decode cX3_isAhead 38 = .ok (.aload_n 0, 1) := dk_42 (dk_at dksX3_isAhead_1 16 rfl rfl)
theorem dX3_isAhead_39 : decode cX3_isAhead 39 = .ok (.getfield 15, 3) := dk_180 0 15 (dk_at dksX3_isAhead_1 17 rfl rfl)
theorem dX3_isAhead_42 : decode cX3_isAhead 42 = .ok (.iload_n 1, 1) := dk_27 (dk_at dksX3_isAhead_1 20 rfl rfl)
theorem dX3_isAhead_43 : decode cX3_isAhead 43 = .ok (.iaload, 1) := dk_46 (dk_at dksX3_isAhead_1 21 rfl rfl)
theorem dX3_isAhead_44 : decode cX3_isAhead 44 = .ok (.aload_n 0, 1) := dk_42 (dk_at dksX3_isAhead_1 22 rfl rfl)
theorem dX3_isAhead_45 : decode cX3_isAhead 45 = .ok (.getfield 15, 3) := dk_180 0 15 (dk_at dksX3_isAhead_2 0 rfl rfl)
theorem dX3_isAhead_48 : decode cX3_isAhead 48 = .ok (.iload_n 2, 1) := dk_28 (dk_at dksX3_isAhead_2 3 rfl rfl)
theorem dX3_isAhead_49 : decode cX3_isAhead 49 = .ok (.iaload, 1) := dk_46 (dk_at dksX3_isAhead_2 4 rfl rfl)
theorem dX3_isAhead_50 : decode cX3_isAhead 50 = .ok (.if_icmp .eq 26, 3) := dk_159 0 26 (dk_at dksX3_isAhead_2 5 rfl rfl)
theorem dX3_isAhead_53 : decode cX3_isAhead 53 = .ok (.aload_n 0, 1) := dk_42 (dk_at dksX3_isAhead_2 8 rfl rfl)
theorem dX3_isAhead_54 : decode cX3_isAhead 54 = .ok (.getfield 15, 3) := dk_180 0 15 (dk_at dksX3_isAhead_2 9 rfl rfl)
theorem dX3_isAhead_57 : decode cX3_isAhead 57 = .ok (.iload_n 1, 1) := dk_27 (dk_at dksX3_isAhead_2 12 rfl rfl)
theorem dX3_isAhead_58 : decode cX3_isAhead 58 = .ok (.iaload, 1) := dk_46 (dk_at dksX3_isAhead_2 13 rfl rfl)
theorem dX3_isAhead_59 : decode cX3_isAhead 59 = .ok (.aload_n 0, 1) := dk_42 (dk_at dksX3_isAhead_2 14 rfl rfl)
theorem dX3_isAhead_60 : decode cX3_isAhead 60 = .ok (.getfield 15, 3) := dk_180 0 15 (dk_at dksX3_isAhead_2 15 rfl rfl)
theorem dX3_isAhead_63 : decode cX3_isAhead 63 = .ok (.iload_n 2, 1) := dk_28 (dk_at dksX3_isAhead_2 18 rfl rfl)
theorem dX3_isAhead_64 : decode cX3_isAhead 64 = .ok (.iaload, 1) := dk_46 (dk_at dksX3_isAhead_2 19 rfl rfl)
theorem dX3_isAhead_65 : decode cX3_isAhead 65 = .ok (.if_icmp .ge 7, 3) := dk_162 0 7 (dk_at dksX3_isAhead_2 20 rfl rfl)
theorem dX3_isAhead_68 : decode cX3_isAhead 68 = .ok (.iconst 1, 1) := dk_4 (dk_at dksX3_isAhead_2 23 rfl rfl)
theorem dX3_isAhead_69 : decode cX3_isAhead 69 = .ok (.goto 17, 3) := dk_167 0 17 (dk_at dksX3_isAhead_3 0 rfl rfl)
theorem dX3_isAhead_72 : decode cX3_isAhead 72 = .ok (.iconst 0, 1) := dk_3 (dk_at dksX3_isAhead_3 3 rfl rfl)
theorem dX3_isAhead_73 : decode cX3_isAhead 73 = .ok (.goto 13, 3) := dk_167 0 13 (dk_at dksX3_isAhead_3 4 rfl rfl)
theorem dX3_isAhead_76 : decode cX3_isAhead 76 = .ok (.iload_n 1, 1) := dk_27 (dk_at dksX3_isAhead_3 7 rfl rfl)
theorem dX3_isAhead_77 : decode cX3_isAhead 77 = .ok (.iload_n 2, 1) := dk_28 (dk_at dksX3_isAhead_3 8 rfl rfl)
theorem dX3_isAhead_78 : decode cX3_isAhead 78 = .ok (.if_icmp .ge 7, 3) := dk_162 0 7 (dk_at dksX3_isAhead_3 9 rfl rfl)
theorem dX3_isAhead_81 : decode cX3_isAhead 81 = .ok (.iconst 1, 1) := dk_4 (dk_at dksX3_isAhead_3 12 rfl rfl)
theorem dX3_isAhead_82 : decode cX3_isAhead 82 = .ok (.goto 4, 3) := dk_167 0 4 (dk_at dksX3_isAhead_3 13 rfl rfl)
theorem dX3_isAhead_85 : decode cX3_isAhead 85 = .ok (.iconst 0, 1) := dk_3 (dk_at dksX3_isAhead_3 16 rfl rfl)
theorem dX3_isAhead_86 : decode cX3_isAhead 86 = .ok (.ireturn, 1) := dk_172 (dk_at dksX3_isAhead_3 17 rfl rfl)
abbrev cX3_isSame : ByteArray := prog_28_method_2_code
def yX3_isSame : MethodName := ⟨RX3, "isSame", "(II)Z"⟩
def dkwX3_isSame_1 : List UInt8 := [180, 0, 15, 28, 46, 160, 0, 7, 4, 167, 0, 4, 3, 172]
abbrev dktX3_isSame_1 : List UInt8 := dkwX3_isSame_1 ++ []
def dkwX3_isSame_0 : List UInt8 := [42, 180, 0, 9, 27, 46, 42, 180, 0, 9, 28, 46, 160, 0, 22, 42, 180, 0, 15, 27, 46, 42]
abbrev dktX3_isSame_0 : List UInt8 := dkwX3_isSame_0 ++ dktX3_isSame_1
theorem dksX3_isSame_0 : cX3_isSame.data.toList.drop 0 = dktX3_isSame_0 := by decide +kernel
theorem dksX3_isSame_1 : cX3_isSame.data.toList.drop 22 = dktX3_isSame_1 := dk_seg dksX3_isSame_0 22 rfl rfl
theorem dX3_isSame_0 : decode cX3_isSame 0 = .ok (.aload_n 0, 1) := dk_42 (dk_at dksX3_isSame_0 0 rfl rfl)
theorem dX3_isSame_1 : decode cX3_isSame 1 = .ok (.getfield 9, 3) := dk_180 0 9 (dk_at dksX3_isSame_0 1 rfl rfl)
theorem dX3_isSame_4 : decode cX3_isSame 4 = .ok (.iload_n 1, 1) := dk_27 (dk_at dksX3_isSame_0 4 rfl rfl)
theorem dX3_isSame_5 : decode cX3_isSame 5 = .ok (.iaload, 1) := dk_46 (dk_at dksX3_isSame_0 5 rfl rfl)
theorem dX3_isSame_6 : decode cX3_isSame 6 = .ok (.aload_n 0, 1) := dk_42 (dk_at dksX3_isSame_0 6 rfl rfl)
theorem dX3_isSame_7 : decode cX3_isSame 7 = .ok (.getfield 9, 3) := dk_180 0 9 (dk_at dksX3_isSame_0 7 rfl rfl)
theorem dX3_isSame_10 : decode cX3_isSame 10 = .ok (.iload_n 2, 1) := dk_28 (dk_at dksX3_isSame_0 10 rfl rfl)
theorem dX3_isSame_11 : decode cX3_isSame 11 = .ok (.iaload, 1) := dk_46 (dk_at dksX3_isSame_0 11 rfl rfl)
theorem dX3_isSame_12 : decode cX3_isSame 12 = .ok (.if_icmp .ne 22, 3) := dk_160 0 22 (dk_at dksX3_isSame_0 12 rfl rfl)
theorem dX3_isSame_15 : decode cX3_isSame 15 = .ok (.aload_n 0, 1) := dk_42 (dk_at dksX3_isSame_0 15 rfl rfl)
theorem dX3_isSame_16 : decode cX3_isSame 16 = .ok (.getfield 15, 3) := dk_180 0 15 (dk_at dksX3_isSame_0 16 rfl rfl)
theorem dX3_isSame_19 : decode cX3_isSame 19 = .ok (.iload_n 1, 1) := dk_27 (dk_at dksX3_isSame_0 19 rfl rfl)
theorem dX3_isSame_20 : decode cX3_isSame 20 = .ok (.iaload, 1) := dk_46 (dk_at dksX3_isSame_0 20 rfl rfl)
theorem dX3_isSame_21 : decode cX3_isSame 21 = .ok (.aload_n 0, 1) := dk_42 (dk_at dksX3_isSame_0 21 rfl rfl)
theorem dX3_isSame_22 : decode cX3_isSame 22 = .ok (.getfield 15, 3) := dk_180 0 15 (dk_at dksX3_isSame_1 0 rfl rfl)
theorem dX3_isSame_25 : decode cX3_isSame 25 = .ok (.iload_n 2, 1) := dk_28 (dk_at dksX3_isSame_1 3 rfl rfl)
theorem dX3_isSame_26 : decode cX3_isSame 26 = .ok (.iaload, 1) := dk_46 (dk_at dksX3_isSame_1 4 rfl rfl)
theorem dX3_isSame_27 : decode cX3_isSame 27 = .ok (.if_icmp .ne 7, 3) := dk_160 0 7 (dk_at dksX3_isSame_1 5 rfl rfl)
theorem dX3_isSame_30 : decode cX3_isSame 30 = .ok (.iconst 1, 1) := dk_4 (dk_at dksX3_isSame_1 8 rfl rfl)
theorem dX3_isSame_31 : decode cX3_isSame 31 = .ok (.goto 4, 3) := dk_167 0 4 (dk_at dksX3_isSame_1 9 rfl rfl)
theorem dX3_isSame_34 : decode cX3_isSame 34 = .ok (.iconst 0, 1) := dk_3 (dk_at dksX3_isSame_1 12 rfl rfl)
theorem dX3_isSame_35 : decode cX3_isSame 35 = .ok (.ireturn, 1) := dk_172 (dk_at dksX3_isSame_1 13 rfl rfl)
abbrev cX3_square : ByteArray := prog_28_method_4_code
def yX3_square : MethodName := ⟨RX3, "square", "(III)I"⟩
def dkwX3_square_1 : List UInt8 := [100, 42, 180, 0, 15, 27, 46, 29, 100, 104, 96, 172]
abbrev dktX3_square_1 : List UInt8 := dkwX3_square_1 ++ []
def dkwX3_square_0 : List UInt8 := [42, 180, 0, 9, 27, 46, 28, 100, 42, 180, 0, 9, 27, 46, 28, 100, 104, 42, 180, 0, 15, 27, 46, 29]
abbrev dktX3_square_0 : List UInt8 := dkwX3_square_0 ++ dktX3_square_1
theorem dksX3_square_0 : cX3_square.data.toList.drop 0 = dktX3_square_0 := by decide +kernel
theorem dksX3_square_1 : cX3_square.data.toList.drop 24 = dktX3_square_1 := dk_seg dksX3_square_0 24 rfl rfl
theorem dX3_square_0 : decode cX3_square 0 = .ok (.aload_n 0, 1) := dk_42 (dk_at dksX3_square_0 0 rfl rfl)
theorem dX3_square_1 : decode cX3_square 1 = .ok (.getfield 9, 3) := dk_180 0 9 (dk_at dksX3_square_0 1 rfl rfl)
theorem dX3_square_4 : decode cX3_square 4 = .ok (.iload_n 1, 1) := dk_27 (dk_at dksX3_square_0 4 rfl rfl)
theorem dX3_square_5 : decode cX3_square 5 = .ok (.iaload, 1) := dk_46 (dk_at dksX3_square_0 5 rfl rfl)
theorem dX3_square_6 : decode cX3_square 6 = .ok (.iload_n 2, 1) := dk_28 (dk_at dksX3_square_0 6 rfl rfl)
theorem dX3_square_7 : decode cX3_square 7 = .ok (.isub, 1) := dk_100 (dk_at dksX3_square_0 7 rfl rfl)
theorem dX3_square_8 : decode cX3_square 8 = .ok (.aload_n 0, 1) := dk_42 (dk_at dksX3_square_0 8 rfl rfl)
theorem dX3_square_9 : decode cX3_square 9 = .ok (.getfield 9, 3) := dk_180 0 9 (dk_at dksX3_square_0 9 rfl rfl)
theorem dX3_square_12 : decode cX3_square 12 = .ok (.iload_n 1, 1) := dk_27 (dk_at dksX3_square_0 12 rfl rfl)
theorem dX3_square_13 : decode cX3_square 13 = .ok (.iaload, 1) := dk_46 (dk_at dksX3_square_0 13 rfl rfl)
theorem dX3_square_14 : decode cX3_square 14 = .ok (.iload_n 2, 1) := dk_28 (dk_at dksX3_square_0 14 rfl rfl)
theorem dX3_square_15 : decode cX3_square 15 = .ok (.isub, 1) := dk_100 (dk_at dksX3_square_0 15 rfl rfl)
theorem dX3_square_16 : decode cX3_square 16 = .ok (.imul, 1) := dk_104 (dk_at dksX3_square_0 16 rfl rfl)
theorem dX3_square_17 : decode cX3_square 17 = .ok (.aload_n 0, 1) := dk_42 (dk_at dksX3_square_0 17 rfl rfl)
theorem dX3_square_18 : decode cX3_square 18 = .ok (.getfield 15, 3) := dk_180 0 15 (dk_at dksX3_square_0 18 rfl rfl)
theorem dX3_square_21 : decode cX3_square 21 = .ok (.iload_n 1, 1) := dk_27 (dk_at dksX3_square_0 21 rfl rfl)
theorem dX3_square_22 : decode cX3_square 22 = .ok (.iaload, 1) := dk_46 (dk_at dksX3_square_0 22 rfl rfl)
theorem dX3_square_23 : decode cX3_square 23 = .ok (.iload_n 3, 1) := dk_29 (dk_at dksX3_square_0 23 rfl rfl)
theorem dX3_square_24 : decode cX3_square 24 = .ok (.isub, 1) := dk_100 (dk_at dksX3_square_1 0 rfl rfl)
theorem dX3_square_25 : decode cX3_square 25 = .ok (.aload_n 0, 1) := dk_42 (dk_at dksX3_square_1 1 rfl rfl)
theorem dX3_square_26 : decode cX3_square 26 = .ok (.getfield 15, 3) := dk_180 0 15 (dk_at dksX3_square_1 2 rfl rfl)
theorem dX3_square_29 : decode cX3_square 29 = .ok (.iload_n 1, 1) := dk_27 (dk_at dksX3_square_1 5 rfl rfl)
theorem dX3_square_30 : decode cX3_square 30 = .ok (.iaload, 1) := dk_46 (dk_at dksX3_square_1 6 rfl rfl)
theorem dX3_square_31 : decode cX3_square 31 = .ok (.iload_n 3, 1) := dk_29 (dk_at dksX3_square_1 7 rfl rfl)
theorem dX3_square_32 : decode cX3_square 32 = .ok (.isub, 1) := dk_100 (dk_at dksX3_square_1 8 rfl rfl)
theorem dX3_square_33 : decode cX3_square 33 = .ok (.imul, 1) := dk_104 (dk_at dksX3_square_1 9 rfl rfl)
theorem dX3_square_34 : decode cX3_square 34 = .ok (.iadd, 1) := dk_96 (dk_at dksX3_square_1 10 rfl rfl)
theorem dX3_square_35 : decode cX3_square 35 = .ok (.ireturn, 1) := dk_172 (dk_at dksX3_square_1 11 rfl rfl)
abbrev cX3_bring : ByteArray := prog_28_method_8_code
def yX3_bring : MethodName := ⟨RX3, "bring", "([I)V"⟩
def dkwX3_bring_1 : List UInt8 := [184, 0, 89, 177]
abbrev dktX3_bring_1 : List UInt8 := dkwX3_bring_1 ++ []
def dkwX3_bring_0 : List UInt8 := [43, 3, 42, 180, 0, 9, 3, 16, 16, 184, 0, 89, 43, 16, 16, 42, 180, 0, 15, 3, 16, 16]
abbrev dktX3_bring_0 : List UInt8 := dkwX3_bring_0 ++ dktX3_bring_1
theorem dksX3_bring_0 : cX3_bring.data.toList.drop 0 = dktX3_bring_0 := by decide +kernel
theorem dksX3_bring_1 : cX3_bring.data.toList.drop 22 = dktX3_bring_1 := dk_seg dksX3_bring_0 22 rfl rfl
theorem dX3_bring_0 : decode cX3_bring 0 = .ok (.aload_n 1, 1) := dk_43 (dk_at dksX3_bring_0 0 rfl rfl)
theorem dX3_bring_1 : decode cX3_bring 1 = .ok (.iconst 0, 1) := dk_3 (dk_at dksX3_bring_0 1 rfl rfl)
theorem dX3_bring_2 : decode cX3_bring 2 = .ok (.aload_n 0, 1) := dk_42 (dk_at dksX3_bring_0 2 rfl rfl)
theorem dX3_bring_3 : decode cX3_bring 3 = .ok (.getfield 9, 3) := dk_180 0 9 (dk_at dksX3_bring_0 3 rfl rfl)
theorem dX3_bring_6 : decode cX3_bring 6 = .ok (.iconst 0, 1) := dk_3 (dk_at dksX3_bring_0 6 rfl rfl)
theorem dX3_bring_7 : decode cX3_bring 7 = .ok (.bipush 16, 2) := dk_16 16 (dk_at dksX3_bring_0 7 rfl rfl)
theorem dX3_bring_9 : decode cX3_bring 9 = .ok (.invokestatic 89, 3) := dk_184 0 89 (dk_at dksX3_bring_0 9 rfl rfl)
theorem dX3_bring_12 : decode cX3_bring 12 = .ok (.aload_n 1, 1) := dk_43 (dk_at dksX3_bring_0 12 rfl rfl)
theorem dX3_bring_13 : decode cX3_bring 13 = .ok (.bipush 16, 2) := dk_16 16 (dk_at dksX3_bring_0 13 rfl rfl)
theorem dX3_bring_15 : decode cX3_bring 15 = .ok (.aload_n 0, 1) := dk_42 (dk_at dksX3_bring_0 15 rfl rfl)
theorem dX3_bring_16 : decode cX3_bring 16 = .ok (.getfield 15, 3) := dk_180 0 15 (dk_at dksX3_bring_0 16 rfl rfl)
theorem dX3_bring_19 : decode cX3_bring 19 = .ok (.iconst 0, 1) := dk_3 (dk_at dksX3_bring_0 19 rfl rfl)
theorem dX3_bring_20 : decode cX3_bring 20 = .ok (.bipush 16, 2) := dk_16 16 (dk_at dksX3_bring_0 20 rfl rfl)
theorem dX3_bring_22 : decode cX3_bring 22 = .ok (.invokestatic 89, 3) := dk_184 0 89 (dk_at dksX3_bring_1 0 rfl rfl)
theorem dX3_bring_25 : decode cX3_bring 25 = .ok (.return_, 1) := dk_177 (dk_at dksX3_bring_1 3 rfl rfl)
abbrev cX3_as : ByteArray := prog_28_method_6_code
def yX3_as : MethodName := ⟨RX3, "as", "(LGridTable$Table;)LGridTable$Table;"⟩
def dkwX3_as_6 : List UInt8 := [181, 0, 85, 42, 180, 0, 31, 182, 0, 38, 42, 176]
abbrev dktX3_as_6 : List UInt8 := dkwX3_as_6 ++ []
def dkwX3_as_5 : List UInt8 := [180, 0, 25, 43, 180, 0, 25, 182, 0, 73, 87, 42, 43, 182, 0, 77, 182, 0, 81, 42, 43, 180, 0, 85]
abbrev dktX3_as_5 : List UInt8 := dkwX3_as_5 ++ dktX3_as_6
def dkwX3_as_4 : List UInt8 := [89, 42, 25, 4, 183, 0, 70, 182, 0, 66, 87, 167, 255, 165, 42, 180, 0, 25, 182, 0, 38, 42]
abbrev dktX3_as_4 : List UInt8 := dkwX3_as_4 ++ dktX3_as_5
def dkwX3_as_3 : List UInt8 := [25, 4, 21, 8, 184, 0, 60, 182, 0, 66, 87, 132, 7, 1, 167, 255, 228, 42, 180, 0, 21, 187, 0, 55]
abbrev dktX3_as_3 : List UInt8 := dkwX3_as_3 ++ dktX3_as_4
def dkwX3_as_2 : List UInt8 := [58, 5, 25, 5, 190, 54, 6, 3, 54, 7, 21, 7, 21, 6, 162, 0, 27, 25, 5, 21, 7, 46, 54, 8]
abbrev dktX3_as_2 : List UInt8 := dkwX3_as_2 ++ dktX3_as_3
def dkwX3_as_1 : List UInt8 := [44, 185, 0, 51, 1, 0, 192, 0, 55, 78, 187, 0, 18, 89, 183, 0, 20, 58, 4, 45, 180, 0, 57]
abbrev dktX3_as_1 : List UInt8 := dkwX3_as_1 ++ dktX3_as_2
def dkwX3_as_0 : List UInt8 := [42, 180, 0, 21, 182, 0, 38, 43, 180, 0, 21, 182, 0, 41, 77, 44, 185, 0, 45, 1, 0, 153, 0, 88]
abbrev dktX3_as_0 : List UInt8 := dkwX3_as_0 ++ dktX3_as_1
theorem dksX3_as_0 : cX3_as.data.toList.drop 0 = dktX3_as_0 := by decide +kernel
theorem dksX3_as_1 : cX3_as.data.toList.drop 24 = dktX3_as_1 := dk_seg dksX3_as_0 24 rfl rfl
theorem dksX3_as_2 : cX3_as.data.toList.drop 47 = dktX3_as_2 := dk_seg dksX3_as_1 23 rfl rfl
theorem dksX3_as_3 : cX3_as.data.toList.drop 71 = dktX3_as_3 := dk_seg dksX3_as_2 24 rfl rfl
theorem dksX3_as_4 : cX3_as.data.toList.drop 95 = dktX3_as_4 := dk_seg dksX3_as_3 24 rfl rfl
theorem dksX3_as_5 : cX3_as.data.toList.drop 117 = dktX3_as_5 := dk_seg dksX3_as_4 22 rfl rfl
theorem dksX3_as_6 : cX3_as.data.toList.drop 141 = dktX3_as_6 := dk_seg dksX3_as_5 24 rfl rfl
theorem dX3_as_0 : decode cX3_as 0 = .ok (.aload_n 0, 1) := dk_42 (dk_at dksX3_as_0 0 rfl rfl)
theorem dX3_as_1 : decode cX3_as 1 = .ok (.getfield 21, 3) := dk_180 0 21 (dk_at dksX3_as_0 1 rfl rfl)
theorem dX3_as_4 : decode cX3_as 4 = .ok (.invokevirtual 38, 3) := dk_182 0 38 (dk_at dksX3_as_0 4 rfl rfl)
theorem dX3_as_7 : decode cX3_as 7 = .ok (.aload_n 1, 1) := dk_43 (dk_at dksX3_as_0 7 rfl rfl)
theorem dX3_as_8 : decode cX3_as 8 = .ok (.getfield 21, 3) := dk_180 0 21 (dk_at dksX3_as_0 8 rfl rfl)
theorem dX3_as_11 : decode cX3_as 11 = .ok (.invokevirtual 41, 3) := dk_182 0 41 (dk_at dksX3_as_0 11 rfl rfl)
theorem dX3_as_14 : decode cX3_as 14 = .ok (.astore_n 2, 1) := dk_77 (dk_at dksX3_as_0 14 rfl rfl)
theorem dX3_as_15 : decode cX3_as 15 = .ok (.aload_n 2, 1) := dk_44 (dk_at dksX3_as_0 15 rfl rfl)
theorem dX3_as_16 : decode cX3_as 16 = .ok (.invokeinterface 45 1, 5) := by decide +kernel
theorem dX3_as_21 : decode cX3_as 21 = .ok (.ifCond .eq 88, 3) := dk_153 0 88 (dk_at dksX3_as_0 21 rfl rfl)
theorem dX3_as_24 : decode cX3_as 24 = .ok (.aload_n 2, 1) := dk_44 (dk_at dksX3_as_1 0 rfl rfl)
theorem dX3_as_25 : decode cX3_as 25 = .ok (.invokeinterface 51 1, 5) := by decide +kernel
theorem dX3_as_30 : decode cX3_as 30 = .ok (.checkcast 55, 3) := dk_192 0 55 (dk_at dksX3_as_1 6 rfl rfl)
theorem dX3_as_33 : decode cX3_as 33 = .ok (.astore_n 3, 1) := dk_78 (dk_at dksX3_as_1 9 rfl rfl)
theorem dX3_as_34 : decode cX3_as 34 = .ok (.new 18, 3) := dk_187 0 18 (dk_at dksX3_as_1 10 rfl rfl)
theorem dX3_as_37 : decode cX3_as 37 = .ok (.dup, 1) := dk_89 (dk_at dksX3_as_1 13 rfl rfl)
theorem dX3_as_38 : decode cX3_as 38 = .ok (.invokespecial 20, 3) := dk_183 0 20 (dk_at dksX3_as_1 14 rfl rfl)
theorem dX3_as_41 : decode cX3_as 41 = .ok (.astore 4, 2) := dk_58 4 (dk_at dksX3_as_1 17 rfl rfl)
theorem dX3_as_43 : decode cX3_as 43 = .ok (.aload_n 3, 1) := dk_45 (dk_at dksX3_as_1 19 rfl rfl)
theorem dX3_as_44 : decode cX3_as 44 = .ok (.getfield 57, 3) := dk_180 0 57 (dk_at dksX3_as_1 20 rfl rfl)
theorem dX3_as_47 : decode cX3_as 47 = .ok (.astore 5, 2) := dk_58 5 (dk_at dksX3_as_2 0 rfl rfl)
theorem dX3_as_49 : decode cX3_as 49 = .ok (.aload 5, 2) := dk_25 5 (dk_at dksX3_as_2 2 rfl rfl)
theorem dX3_as_51 : decode cX3_as 51 = .ok (.arraylength, 1) := dk_190 (dk_at dksX3_as_2 4 rfl rfl)
theorem dX3_as_52 : decode cX3_as 52 = .ok (.istore 6, 2) := dk_54 6 (dk_at dksX3_as_2 5 rfl rfl)
theorem dX3_as_54 : decode cX3_as 54 = .ok (.iconst 0, 1) := dk_3 (dk_at dksX3_as_2 7 rfl rfl)
theorem dX3_as_55 : decode cX3_as 55 = .ok (.istore 7, 2) := dk_54 7 (dk_at dksX3_as_2 8 rfl rfl)
theorem dX3_as_57 : decode cX3_as 57 = .ok (.iload 7, 2) := dk_21 7 (dk_at dksX3_as_2 10 rfl rfl)
theorem dX3_as_59 : decode cX3_as 59 = .ok (.iload 6, 2) := dk_21 6 (dk_at dksX3_as_2 12 rfl rfl)
theorem dX3_as_61 : decode cX3_as 61 = .ok (.if_icmp .ge 27, 3) := dk_162 0 27 (dk_at dksX3_as_2 14 rfl rfl)
theorem dX3_as_64 : decode cX3_as 64 = .ok (.aload 5, 2) := dk_25 5 (dk_at dksX3_as_2 17 rfl rfl)
theorem dX3_as_66 : decode cX3_as 66 = .ok (.iload 7, 2) := dk_21 7 (dk_at dksX3_as_2 19 rfl rfl)
theorem dX3_as_68 : decode cX3_as 68 = .ok (.iaload, 1) := dk_46 (dk_at dksX3_as_2 21 rfl rfl)
theorem dX3_as_69 : decode cX3_as 69 = .ok (.istore 8, 2) := dk_54 8 (dk_at dksX3_as_2 22 rfl rfl)
theorem dX3_as_71 : decode cX3_as 71 = .ok (.aload 4, 2) := dk_25 4 (dk_at dksX3_as_3 0 rfl rfl)
theorem dX3_as_73 : decode cX3_as 73 = .ok (.iload 8, 2) := dk_21 8 (dk_at dksX3_as_3 2 rfl rfl)
theorem dX3_as_75 : decode cX3_as 75 = .ok (.invokestatic 60, 3) := dk_184 0 60 (dk_at dksX3_as_3 4 rfl rfl)
theorem dX3_as_78 : decode cX3_as 78 = .ok (.invokevirtual 66, 3) := dk_182 0 66 (dk_at dksX3_as_3 7 rfl rfl)
theorem dX3_as_81 : decode cX3_as 81 = .ok (.pop, 1) := dk_87 (dk_at dksX3_as_3 10 rfl rfl)
theorem dX3_as_82 : decode cX3_as 82 = .ok (.iinc 7 1, 3) := dk_132 7 1 (dk_at dksX3_as_3 11 rfl rfl)
theorem dX3_as_85 : decode cX3_as 85 = .ok (.goto (-28), 3) := dk_167 255 228 (dk_at dksX3_as_3 14 rfl rfl)
theorem dX3_as_88 : decode cX3_as 88 = .ok (.aload_n 0, 1) := dk_42 (dk_at dksX3_as_3 17 rfl rfl)
theorem dX3_as_89 : decode cX3_as 89 = .ok (.getfield 21, 3) := dk_180 0 21 (dk_at dksX3_as_3 18 rfl rfl)
theorem dX3_as_92 : decode cX3_as 92 = .ok (.new 55, 3) := dk_187 0 55 (dk_at dksX3_as_3 21 rfl rfl)
theorem dX3_as_95 : decode cX3_as 95 = .ok (.dup, 1) := dk_89 (dk_at dksX3_as_4 0 rfl rfl)
theorem dX3_as_96 : decode cX3_as 96 = .ok (.aload_n 0, 1) := dk_42 (dk_at dksX3_as_4 1 rfl rfl)
theorem dX3_as_97 : decode cX3_as 97 = .ok (.aload 4, 2) := dk_25 4 (dk_at dksX3_as_4 2 rfl rfl)
theorem dX3_as_99 : decode cX3_as 99 = .ok (.invokespecial 70, 3) := dk_183 0 70 (dk_at dksX3_as_4 4 rfl rfl)
theorem dX3_as_102 : decode cX3_as 102 = .ok (.invokevirtual 66, 3) := dk_182 0 66 (dk_at dksX3_as_4 7 rfl rfl)
theorem dX3_as_105 : decode cX3_as 105 = .ok (.pop, 1) := dk_87 (dk_at dksX3_as_4 10 rfl rfl)
theorem dX3_as_106 : decode cX3_as 106 = .ok (.goto (-91), 3) := dk_167 255 165 (dk_at dksX3_as_4 11 rfl rfl)
theorem dX3_as_109 : decode cX3_as 109 = .ok (.aload_n 0, 1) := dk_42 (dk_at dksX3_as_4 14 rfl rfl)
theorem dX3_as_110 : decode cX3_as 110 = .ok (.getfield 25, 3) := dk_180 0 25 (dk_at dksX3_as_4 15 rfl rfl)
theorem dX3_as_113 : decode cX3_as 113 = .ok (.invokevirtual 38, 3) := dk_182 0 38 (dk_at dksX3_as_4 18 rfl rfl)
theorem dX3_as_116 : decode cX3_as 116 = .ok (.aload_n 0, 1) := dk_42 (dk_at dksX3_as_4 21 rfl rfl)
theorem dX3_as_117 : decode cX3_as 117 = .ok (.getfield 25, 3) := dk_180 0 25 (dk_at dksX3_as_5 0 rfl rfl)
theorem dX3_as_120 : decode cX3_as 120 = .ok (.aload_n 1, 1) := dk_43 (dk_at dksX3_as_5 3 rfl rfl)
theorem dX3_as_121 : decode cX3_as 121 = .ok (.getfield 25, 3) := dk_180 0 25 (dk_at dksX3_as_5 4 rfl rfl)
theorem dX3_as_124 : decode cX3_as 124 = .ok (.invokevirtual 73, 3) := dk_182 0 73 (dk_at dksX3_as_5 7 rfl rfl)
theorem dX3_as_127 : decode cX3_as 127 = .ok (.pop, 1) := dk_87 (dk_at dksX3_as_5 10 rfl rfl)
theorem dX3_as_128 : decode cX3_as 128 = .ok (.aload_n 0, 1) := dk_42 (dk_at dksX3_as_5 11 rfl rfl)
theorem dX3_as_129 : decode cX3_as 129 = .ok (.aload_n 1, 1) := dk_43 (dk_at dksX3_as_5 12 rfl rfl)
theorem dX3_as_130 : decode cX3_as 130 = .ok (.invokevirtual 77, 3) := dk_182 0 77 (dk_at dksX3_as_5 13 rfl rfl)
theorem dX3_as_133 : decode cX3_as 133 = .ok (.invokevirtual 81, 3) := dk_182 0 81 (dk_at dksX3_as_5 16 rfl rfl)
theorem dX3_as_136 : decode cX3_as 136 = .ok (.aload_n 0, 1) := dk_42 (dk_at dksX3_as_5 19 rfl rfl)
theorem dX3_as_137 : decode cX3_as 137 = .ok (.aload_n 1, 1) := dk_43 (dk_at dksX3_as_5 20 rfl rfl)
theorem dX3_as_138 : decode cX3_as 138 = .ok (.getfield 85, 3) := dk_180 0 85 (dk_at dksX3_as_5 21 rfl rfl)
theorem dX3_as_141 : decode cX3_as 141 = .ok (.putfield 85, 3) := dk_181 0 85 (dk_at dksX3_as_6 0 rfl rfl)
theorem dX3_as_144 : decode cX3_as 144 = .ok (.aload_n 0, 1) := dk_42 (dk_at dksX3_as_6 3 rfl rfl)
theorem dX3_as_145 : decode cX3_as 145 = .ok (.getfield 31, 3) := dk_180 0 31 (dk_at dksX3_as_6 4 rfl rfl)
theorem dX3_as_148 : decode cX3_as 148 = .ok (.invokevirtual 38, 3) := dk_182 0 38 (dk_at dksX3_as_6 7 rfl rfl)
theorem dX3_as_151 : decode cX3_as 151 = .ok (.aload_n 0, 1) := dk_42 (dk_at dksX3_as_6 10 rfl rfl)
theorem dX3_as_152 : decode cX3_as 152 = .ok (.areturn, 1) := dk_176 (dk_at dksX3_as_6 11 rfl rfl)
theorem q114 : (Jvm.Cond.initialized "GridTable$Table") ∈ lw_all := lw_g (lw_at lw_m1 3 rfl) rfl
theorem q202 : (Jvm.Cond.instantiable "GridTable$Table" (7 : Nat)) ∈ lw_all := lw_g (lw_at lw_m1 91 rfl) rfl
theorem q204 : (Jvm.Cond.instanceMethod ({ cls := "GridTable$Table", name := "<init>", desc := "()V" } : Jvm.MethodName)) ∈ lw_all := lw_g (lw_at lw_m1 93 rfl) rfl
theorem q205 : (Jvm.Cond.code ({ cls := "GridTable$Table", name := "<init>", desc := "()V" } : Jvm.MethodName) prog_28_method_1_code (1 : Nat) (Option.none : Option Jvm.ClassFile.FieldType)) ∈ lw_all := lw_g (lw_at lw_m1 94 rfl) rfl
theorem q206 : (Jvm.Cond.methodLink "GridTable$Table" (3 : Nat) ({ cls := "java/lang/Object", name := "<init>", desc := "()V" } : Jvm.MethodName)) ∈ lw_all := lw_g (lw_at lw_m1 95 rfl) rfl
theorem q207 : (Jvm.Cond.classLink "GridTable$Table" (18 : Nat) "java/util/ArrayList") ∈ lw_all := lw_g (lw_at lw_m1 96 rfl) rfl
theorem q209 : (Jvm.Cond.methodLink "GridTable$Table" (20 : Nat) ({ cls := "java/util/ArrayList", name := "<init>", desc := "()V" } : Jvm.MethodName)) ∈ lw_all := lw_g (lw_at lw_m1 98 rfl) rfl
theorem q237 : (Jvm.Cond.fieldLink "GridTable$Table" (9 : Nat) "GridTable$Table" "xs" "[I") ∈ lw_all := lw_g (lw_at lw_m1 126 rfl) rfl
theorem q245 : (Jvm.Cond.fieldLink "GridTable$Table" (15 : Nat) "GridTable$Table" "ys" "[I") ∈ lw_all := lw_g (lw_at lw_m1 134 rfl) rfl
theorem q253 : (Jvm.Cond.fieldLink "GridTable$Table" (21 : Nat) "GridTable$Table" "shapes" "Ljava/util/ArrayList;") ∈ lw_all := lw_g (lw_at lw_m1 142 rfl) rfl
theorem q261 : (Jvm.Cond.fieldLink "GridTable$Table" (25 : Nat) "GridTable$Table" "steps" "Ljava/util/ArrayList;") ∈ lw_all := lw_g (lw_at lw_m1 150 rfl) rfl
theorem q264 : (Jvm.Cond.fieldLink "GridTable$Table" (28 : Nat) "GridTable$Table" "often" "[I") ∈ lw_all := lw_g (lw_at lw_m1 153 rfl) rfl
theorem q266 : (Jvm.Cond.fieldLink "GridTable$Table" (31 : Nat) "GridTable$Table" "kept" "Ljava/util/ArrayList;") ∈ lw_all := lw_g (lw_at lw_m1 155 rfl) rfl
theorem q268 : (Jvm.Cond.fieldLink "GridTable$Table" (85 : Nat) "GridTable$Table" "points" "I") ∈ lw_all := lw_g (lw_at lw_m1 157 rfl) rfl
theorem q271 : (Jvm.Cond.laysFinal "GridTable$Table" "GridTable$Table" "xs" "[I") ∈ lw_all := lw_g (lw_at lw_m1 160 rfl) rfl
theorem q272 : (Jvm.Cond.soleField "GridTable$Table" "xs") ∈ lw_all := lw_g (lw_at lw_m1 161 rfl) rfl
theorem q273 : (Jvm.Cond.laysFinal "GridTable$Table" "GridTable$Table" "ys" "[I") ∈ lw_all := lw_g (lw_at lw_m1 162 rfl) rfl
theorem q274 : (Jvm.Cond.soleField "GridTable$Table" "ys") ∈ lw_all := lw_g (lw_at lw_m1 163 rfl) rfl
theorem q275 : (Jvm.Cond.laysFinal "GridTable$Table" "GridTable$Table" "shapes" "Ljava/util/ArrayList;") ∈ lw_all := lw_g (lw_at lw_m1 164 rfl) rfl
theorem q276 : (Jvm.Cond.soleField "GridTable$Table" "shapes") ∈ lw_all := lw_g (lw_at lw_m1 165 rfl) rfl
theorem q277 : (Jvm.Cond.laysFinal "GridTable$Table" "GridTable$Table" "steps" "Ljava/util/ArrayList;") ∈ lw_all := lw_g (lw_at lw_m1 166 rfl) rfl
theorem q278 : (Jvm.Cond.soleField "GridTable$Table" "steps") ∈ lw_all := lw_g (lw_at lw_m1 167 rfl) rfl
theorem q279 : (Jvm.Cond.laysFinal "GridTable$Table" "GridTable$Table" "often" "[I") ∈ lw_all := lw_g (lw_at lw_m1 168 rfl) rfl
theorem q280 : (Jvm.Cond.soleField "GridTable$Table" "often") ∈ lw_all := lw_g (lw_at lw_m1 169 rfl) rfl
theorem q281 : (Jvm.Cond.laysFinal "GridTable$Table" "GridTable$Table" "kept" "Ljava/util/ArrayList;") ∈ lw_all := lw_g (lw_at lw_m1 170 rfl) rfl
theorem q282 : (Jvm.Cond.soleField "GridTable$Table" "kept") ∈ lw_all := lw_g (lw_at lw_m1 171 rfl) rfl
theorem q283 : (Jvm.Cond.lays "GridTable$Table" "GridTable$Table" "points" "I") ∈ lw_all := lw_g (lw_at lw_m1 172 rfl) rfl
theorem q284 : (Jvm.Cond.soleField "GridTable$Table" "points") ∈ lw_all := lw_g (lw_at lw_m1 173 rfl) rfl
theorem q285 : (Jvm.Cond.superclass "GridTable$Table" "java/lang/Object") ∈ lw_all := lw_g (lw_at lw_m1 174 rfl) rfl
theorem q827 : (Jvm.Cond.selects "GridTable$Table" ({ cls := "java/lang/Object", name := "getClass", desc := "()Ljava/lang/Class;" } : Jvm.MethodName) ({ cls := "java/lang/Object", name := "getClass", desc := "()Ljava/lang/Class;" } : Jvm.MethodName)) ∈ lw_all := lw_g (lw_at lw_m3 236 rfl) rfl
theorem q1056 : (Jvm.Cond.selects "GridTable$Table" ({ cls := "java/lang/Object", name := "hashCode", desc := "()I" } : Jvm.MethodName) ({ cls := "java/lang/Object", name := "hashCode", desc := "()I" } : Jvm.MethodName)) ∈ lw_all := lw_g (lw_at lw_m4 225 rfl) rfl
theorem q1168 : (Jvm.Cond.selects "GridTable$Table" ({ cls := "java/lang/Object", name := "equals", desc := "(Ljava/lang/Object;)Z" } : Jvm.MethodName) ({ cls := "java/lang/Object", name := "equals", desc := "(Ljava/lang/Object;)Z" } : Jvm.MethodName)) ∈ lw_all := lw_g (lw_at lw_m5 97 rfl) rfl
theorem q1787 : (Jvm.Cond.instanceMethod ({ cls := "GridTable$Table", name := "put", desc := "(IJJ)V" } : Jvm.MethodName)) ∈ lw_all := lw_g (lw_at lw_m7 236 rfl) rfl
theorem q1788 : (Jvm.Cond.selects "GridTable$Table" ({ cls := "GridTable$Table", name := "put", desc := "(IJJ)V" } : Jvm.MethodName) ({ cls := "GridTable$Table", name := "put", desc := "(IJJ)V" } : Jvm.MethodName)) ∈ lw_all := lw_g (lw_at lw_m7 237 rfl) rfl
theorem q1789 : (Jvm.Cond.code ({ cls := "GridTable$Table", name := "put", desc := "(IJJ)V" } : Jvm.MethodName) prog_28_method_5_code (6 : Nat) (Option.none : Option Jvm.ClassFile.FieldType)) ∈ lw_all := lw_g (lw_at lw_m7 238 rfl) rfl
theorem q1790 : (Jvm.Cond.methodLinkNest "GridTable$Table" (34 : Nat) ({ cls := "GridTable", name := "held", desc := "(J)I" } : Jvm.MethodName) "GridTable") ∈ lw_tbl := lw_at lw_m7 239 rfl
theorem q2007 : (Jvm.Cond.fieldLinkNest "GridTable$Table" (57 : Nat) "GridTable$Table$Shape" "corners" "[I" "GridTable") ∈ lw_tbl := lw_at lw_m8 216 rfl
theorem q2133 : (Jvm.Cond.fieldLinkNest "GridTable$Table" (118 : Nat) "GridTable$Step" "deed" "LGridTable$Deed;" "GridTable") ∈ lw_tbl := lw_at lw_m9 102 rfl
theorem q2149 : (Jvm.Cond.fieldLinkNest "GridTable$Table" (108 : Nat) "GridTable$Step" "test" "LGridTable$Test;" "GridTable") ∈ lw_tbl := lw_at lw_m9 118 rfl
theorem q2174 : (Jvm.Cond.instanceMethod ({ cls := "GridTable$Table", name := "where", desc := "()[I" } : Jvm.MethodName)) ∈ lw_all := lw_g (lw_at lw_m9 143 rfl) rfl
theorem q2175 : (Jvm.Cond.selects "GridTable$Table" ({ cls := "GridTable$Table", name := "where", desc := "()[I" } : Jvm.MethodName) ({ cls := "GridTable$Table", name := "where", desc := "()[I" } : Jvm.MethodName)) ∈ lw_all := lw_g (lw_at lw_m9 144 rfl) rfl
theorem q2176 : (Jvm.Cond.code ({ cls := "GridTable$Table", name := "where", desc := "()[I" } : Jvm.MethodName) prog_28_method_7_code (2 : Nat) (Option.some (Jvm.ClassFile.FieldType.array Jvm.ClassFile.FieldType.int))) ∈ lw_all := lw_g (lw_at lw_m9 145 rfl) rfl
theorem q2177 : (Jvm.Cond.methodLink "GridTable$Table" (89 : Nat) ({ cls := "java/lang/System", name := "arraycopy", desc := "(Ljava/lang/Object;ILjava/lang/Object;II)V" } : Jvm.MethodName)) ∈ lw_all := lw_g (lw_at lw_m9 146 rfl) rfl
theorem q2179 : (Jvm.Cond.instanceMethod ({ cls := "GridTable$Table", name := "keep", desc := "([I)V" } : Jvm.MethodName)) ∈ lw_all := lw_g (lw_at lw_m9 148 rfl) rfl
theorem q2180 : (Jvm.Cond.selects "GridTable$Table" ({ cls := "GridTable$Table", name := "keep", desc := "([I)V" } : Jvm.MethodName) ({ cls := "GridTable$Table", name := "keep", desc := "([I)V" } : Jvm.MethodName)) ∈ lw_all := lw_g (lw_at lw_m9 149 rfl) rfl
theorem q2181 : (Jvm.Cond.code ({ cls := "GridTable$Table", name := "keep", desc := "([I)V" } : Jvm.MethodName) prog_28_method_9_code (2 : Nat) (Option.none : Option Jvm.ClassFile.FieldType)) ∈ lw_all := lw_g (lw_at lw_m9 150 rfl) rfl
theorem q2182 : (Jvm.Cond.methodLink "GridTable$Table" (66 : Nat) ({ cls := "java/util/ArrayList", name := "add", desc := "(Ljava/lang/Object;)Z" } : Jvm.MethodName)) ∈ lw_all := lw_g (lw_at lw_m9 151 rfl) rfl
theorem q2183 : (Jvm.Cond.methodLink "GridTable$Table" (95 : Nat) ({ cls := "java/util/ArrayList", name := "size", desc := "()I" } : Jvm.MethodName)) ∈ lw_all := lw_g (lw_at lw_m9 152 rfl) rfl
theorem q2184 : (Jvm.Cond.methodLink "GridTable$Table" (99 : Nat) ({ cls := "java/util/ArrayList", name := "remove", desc := "(I)Ljava/lang/Object;" } : Jvm.MethodName)) ∈ lw_all := lw_g (lw_at lw_m9 153 rfl) rfl
theorem q2194 : (Jvm.Cond.instanceMethod ({ cls := "GridTable$Table", name := "run", desc := "()I" } : Jvm.MethodName)) ∈ lw_all := lw_g (lw_at lw_m9 163 rfl) rfl
theorem q2195 : (Jvm.Cond.selects "GridTable$Table" ({ cls := "GridTable$Table", name := "run", desc := "()I" } : Jvm.MethodName) ({ cls := "GridTable$Table", name := "run", desc := "()I" } : Jvm.MethodName)) ∈ lw_all := lw_g (lw_at lw_m9 164 rfl) rfl
theorem q2196 : (Jvm.Cond.code ({ cls := "GridTable$Table", name := "run", desc := "()I" } : Jvm.MethodName) prog_28_method_11_code (3 : Nat) (Option.some Jvm.ClassFile.FieldType.int)) ∈ lw_all := lw_g (lw_at lw_m9 165 rfl) rfl
theorem q2197 : (Jvm.Cond.methodLink "GridTable$Table" (128 : Nat) ({ cls := "GridTable$Table", name := "carry", desc := "(I)Z" } : Jvm.MethodName)) ∈ lw_all := lw_g (lw_at lw_m9 166 rfl) rfl
theorem q2198 : (Jvm.Cond.instanceMethod ({ cls := "GridTable$Table", name := "carry", desc := "(I)Z" } : Jvm.MethodName)) ∈ lw_all := lw_g (lw_at lw_m9 167 rfl) rfl
theorem q2199 : (Jvm.Cond.selects "GridTable$Table" ({ cls := "GridTable$Table", name := "carry", desc := "(I)Z" } : Jvm.MethodName) ({ cls := "GridTable$Table", name := "carry", desc := "(I)Z" } : Jvm.MethodName)) ∈ lw_all := lw_g (lw_at lw_m9 168 rfl) rfl
theorem q2200 : (Jvm.Cond.code ({ cls := "GridTable$Table", name := "carry", desc := "(I)Z" } : Jvm.MethodName) prog_28_method_10_code (3 : Nat) (Option.some Jvm.ClassFile.FieldType.boolean)) ∈ lw_all := lw_g (lw_at lw_m9 169 rfl) rfl
theorem q2201 : (Jvm.Cond.methodLink "GridTable$Table" (103 : Nat) ({ cls := "java/util/ArrayList", name := "get", desc := "(I)Ljava/lang/Object;" } : Jvm.MethodName)) ∈ lw_all := lw_g (lw_at lw_m9 170 rfl) rfl
theorem q2202 : (Jvm.Cond.classLink "GridTable$Table" (106 : Nat) "GridTable$Step") ∈ lw_all := lw_g (lw_at lw_m9 171 rfl) rfl
theorem q2203 : (Jvm.Cond.interfaceEntry "GridTable$Table" (112 : Nat)) ∈ lw_tbl := lw_at lw_m9 172 rfl
theorem q2204 : (Jvm.Cond.methodLink "GridTable$Table" (112 : Nat) ({ cls := "GridTable$Test", name := "holds", desc := "(LGridTable$Table;)Z" } : Jvm.MethodName)) ∈ lw_all := lw_g (lw_at lw_m9 173 rfl) rfl
theorem q2267 : (Jvm.Cond.methodLink "GridTable$Table" (122 : Nat) ({ cls := "GridTable$Deed", name := "carry", desc := "(LGridTable$Table;LGridTable$Step;)V" } : Jvm.MethodName)) ∈ lw_all := lw_g (lw_at lw_m9 236 rfl) rfl
theorem q2301 : (Jvm.Cond.instanceMethod ({ cls := "GridTable$Table", name := "areas", desc := "()I" } : Jvm.MethodName)) ∈ lw_all := lw_g (lw_at lw_m10 30 rfl) rfl
theorem q2302 : (Jvm.Cond.selects "GridTable$Table" ({ cls := "GridTable$Table", name := "areas", desc := "()I" } : Jvm.MethodName) ({ cls := "GridTable$Table", name := "areas", desc := "()I" } : Jvm.MethodName)) ∈ lw_all := lw_g (lw_at lw_m10 31 rfl) rfl
theorem q2303 : (Jvm.Cond.code ({ cls := "GridTable$Table", name := "areas", desc := "()I" } : Jvm.MethodName) prog_28_method_12_code (4 : Nat) (Option.some Jvm.ClassFile.FieldType.int)) ∈ lw_all := lw_g (lw_at lw_m10 32 rfl) rfl
theorem q2304 : (Jvm.Cond.methodLink "GridTable$Table" (41 : Nat) ({ cls := "java/util/ArrayList", name := "iterator", desc := "()Ljava/util/Iterator;" } : Jvm.MethodName)) ∈ lw_all := lw_g (lw_at lw_m10 33 rfl) rfl
theorem q2327 : (Jvm.Cond.interfaceEntry "GridTable$Table" (45 : Nat)) ∈ lw_tbl := lw_at lw_m10 56 rfl
theorem q2328 : (Jvm.Cond.methodLink "GridTable$Table" (45 : Nat) ({ cls := "java/util/Iterator", name := "hasNext", desc := "()Z" } : Jvm.MethodName)) ∈ lw_all := lw_g (lw_at lw_m10 57 rfl) rfl
theorem q2337 : (Jvm.Cond.interfaceEntry "GridTable$Table" (51 : Nat)) ∈ lw_tbl := lw_at lw_m10 66 rfl
theorem q2338 : (Jvm.Cond.methodLink "GridTable$Table" (51 : Nat) ({ cls := "java/util/Iterator", name := "next", desc := "()Ljava/lang/Object;" } : Jvm.MethodName)) ∈ lw_all := lw_g (lw_at lw_m10 67 rfl) rfl
theorem q2350 : (Jvm.Cond.classLink "GridTable$Table" (55 : Nat) "GridTable$Table$Shape") ∈ lw_all := lw_g (lw_at lw_m10 79 rfl) rfl
theorem q2351 : (Jvm.Cond.methodLink "GridTable$Table" (131 : Nat) ({ cls := "GridTable$Table$Shape", name := "area", desc := "()I" } : Jvm.MethodName)) ∈ lw_all := lw_g (lw_at lw_m10 80 rfl) rfl
theorem q2352 : (Jvm.Cond.methodLink "GridTable$Table" (134 : Nat) ({ cls := "java/lang/Math", name := "abs", desc := "(I)I" } : Jvm.MethodName)) ∈ lw_all := lw_g (lw_at lw_m10 81 rfl) rfl
theorem q2386 : (Jvm.Cond.instanceMethod ({ cls := "GridTable$Table", name := "crossings", desc := "()I" } : Jvm.MethodName)) ∈ lw_all := lw_g (lw_at lw_m10 115 rfl) rfl
theorem q2387 : (Jvm.Cond.selects "GridTable$Table" ({ cls := "GridTable$Table", name := "crossings", desc := "()I" } : Jvm.MethodName) ({ cls := "GridTable$Table", name := "crossings", desc := "()I" } : Jvm.MethodName)) ∈ lw_all := lw_g (lw_at lw_m10 116 rfl) rfl
theorem q2388 : (Jvm.Cond.code ({ cls := "GridTable$Table", name := "crossings", desc := "()I" } : Jvm.MethodName) prog_28_method_13_code (4 : Nat) (Option.some Jvm.ClassFile.FieldType.int)) ∈ lw_all := lw_g (lw_at lw_m10 117 rfl) rfl
theorem q2389 : (Jvm.Cond.methodLink "GridTable$Table" (140 : Nat) ({ cls := "GridTable$Table$Shape", name := "crosses", desc := "(LGridTable$Table$Shape;)I" } : Jvm.MethodName)) ∈ lw_all := lw_g (lw_at lw_m10 118 rfl) rfl
theorem q2391 : (Jvm.Cond.instanceMethod ({ cls := "GridTable$Table", name := "inside", desc := "()I" } : Jvm.MethodName)) ∈ lw_all := lw_g (lw_at lw_m10 120 rfl) rfl
theorem q2392 : (Jvm.Cond.selects "GridTable$Table" ({ cls := "GridTable$Table", name := "inside", desc := "()I" } : Jvm.MethodName) ({ cls := "GridTable$Table", name := "inside", desc := "()I" } : Jvm.MethodName)) ∈ lw_all := lw_g (lw_at lw_m10 121 rfl) rfl
theorem q2393 : (Jvm.Cond.code ({ cls := "GridTable$Table", name := "inside", desc := "()I" } : Jvm.MethodName) prog_28_method_15_code (3 : Nat) (Option.some Jvm.ClassFile.FieldType.int)) ∈ lw_all := lw_g (lw_at lw_m10 122 rfl) rfl
theorem q2394 : (Jvm.Cond.methodLink "GridTable$Table" (148 : Nat) ({ cls := "GridTable$Table", name := "insideOf", desc := "(I)I" } : Jvm.MethodName)) ∈ lw_all := lw_g (lw_at lw_m10 123 rfl) rfl
theorem q2395 : (Jvm.Cond.instanceMethod ({ cls := "GridTable$Table", name := "insideOf", desc := "(I)I" } : Jvm.MethodName)) ∈ lw_all := lw_g (lw_at lw_m10 124 rfl) rfl
theorem q2396 : (Jvm.Cond.selects "GridTable$Table" ({ cls := "GridTable$Table", name := "insideOf", desc := "(I)I" } : Jvm.MethodName) ({ cls := "GridTable$Table", name := "insideOf", desc := "(I)I" } : Jvm.MethodName)) ∈ lw_all := lw_g (lw_at lw_m10 125 rfl) rfl
theorem q2397 : (Jvm.Cond.code ({ cls := "GridTable$Table", name := "insideOf", desc := "(I)I" } : Jvm.MethodName) prog_28_method_14_code (5 : Nat) (Option.some Jvm.ClassFile.FieldType.int)) ∈ lw_all := lw_g (lw_at lw_m10 126 rfl) rfl
theorem q2398 : (Jvm.Cond.methodLink "GridTable$Table" (144 : Nat) ({ cls := "GridTable$Table$Shape", name := "lies", desc := "(II)I" } : Jvm.MethodName)) ∈ lw_all := lw_g (lw_at lw_m10 127 rfl) rfl
theorem q2438 : (Jvm.Cond.privateMethod ({ cls := "GridTable$Table", name := "isAhead", desc := "(II)Z" } : Jvm.MethodName)) ∈ lw_tbl := lw_at lw_m10 167 rfl
theorem q2439 : (Jvm.Cond.instanceMethod ({ cls := "GridTable$Table", name := "isAhead", desc := "(II)Z" } : Jvm.MethodName)) ∈ lw_all := lw_g (lw_at lw_m10 168 rfl) rfl
theorem q2440 : (Jvm.Cond.code ({ cls := "GridTable$Table", name := "isAhead", desc := "(II)Z" } : Jvm.MethodName) prog_28_method_3_code (3 : Nat) (Option.some Jvm.ClassFile.FieldType.boolean)) ∈ lw_all := lw_g (lw_at lw_m10 169 rfl) rfl
theorem q2451 : (Jvm.Cond.privateMethod ({ cls := "GridTable$Table", name := "isSame", desc := "(II)Z" } : Jvm.MethodName)) ∈ lw_tbl := lw_at lw_m10 180 rfl
theorem q2452 : (Jvm.Cond.instanceMethod ({ cls := "GridTable$Table", name := "isSame", desc := "(II)Z" } : Jvm.MethodName)) ∈ lw_all := lw_g (lw_at lw_m10 181 rfl) rfl
theorem q2453 : (Jvm.Cond.code ({ cls := "GridTable$Table", name := "isSame", desc := "(II)Z" } : Jvm.MethodName) prog_28_method_2_code (3 : Nat) (Option.some Jvm.ClassFile.FieldType.boolean)) ∈ lw_all := lw_g (lw_at lw_m10 182 rfl) rfl
theorem q2455 : (Jvm.Cond.instanceMethod ({ cls := "GridTable$Table", name := "square", desc := "(III)I" } : Jvm.MethodName)) ∈ lw_all := lw_g (lw_at lw_m10 184 rfl) rfl
theorem q2456 : (Jvm.Cond.selects "GridTable$Table" ({ cls := "GridTable$Table", name := "square", desc := "(III)I" } : Jvm.MethodName) ({ cls := "GridTable$Table", name := "square", desc := "(III)I" } : Jvm.MethodName)) ∈ lw_all := lw_g (lw_at lw_m10 185 rfl) rfl
theorem q2457 : (Jvm.Cond.code ({ cls := "GridTable$Table", name := "square", desc := "(III)I" } : Jvm.MethodName) prog_28_method_4_code (4 : Nat) (Option.some Jvm.ClassFile.FieldType.int)) ∈ lw_all := lw_g (lw_at lw_m10 186 rfl) rfl
theorem q2663 : (Jvm.Cond.instanceMethod ({ cls := "GridTable$Table", name := "bring", desc := "([I)V" } : Jvm.MethodName)) ∈ lw_all := lw_g (lw_at lw_m11 152 rfl) rfl
theorem q2664 : (Jvm.Cond.selects "GridTable$Table" ({ cls := "GridTable$Table", name := "bring", desc := "([I)V" } : Jvm.MethodName) ({ cls := "GridTable$Table", name := "bring", desc := "([I)V" } : Jvm.MethodName)) ∈ lw_all := lw_g (lw_at lw_m11 153 rfl) rfl
theorem q2665 : (Jvm.Cond.code ({ cls := "GridTable$Table", name := "bring", desc := "([I)V" } : Jvm.MethodName) prog_28_method_8_code (2 : Nat) (Option.none : Option Jvm.ClassFile.FieldType)) ∈ lw_all := lw_g (lw_at lw_m11 154 rfl) rfl
theorem q2681 : (Jvm.Cond.instanceMethod ({ cls := "GridTable$Table", name := "as", desc := "(LGridTable$Table;)LGridTable$Table;" } : Jvm.MethodName)) ∈ lw_all := lw_g (lw_at lw_m11 170 rfl) rfl
theorem q2682 : (Jvm.Cond.selects "GridTable$Table" ({ cls := "GridTable$Table", name := "as", desc := "(LGridTable$Table;)LGridTable$Table;" } : Jvm.MethodName) ({ cls := "GridTable$Table", name := "as", desc := "(LGridTable$Table;)LGridTable$Table;" } : Jvm.MethodName)) ∈ lw_all := lw_g (lw_at lw_m11 171 rfl) rfl
theorem q2683 : (Jvm.Cond.code ({ cls := "GridTable$Table", name := "as", desc := "(LGridTable$Table;)LGridTable$Table;" } : Jvm.MethodName) prog_28_method_6_code (9 : Nat) (Option.some (Jvm.ClassFile.FieldType.object "GridTable$Table"))) ∈ lw_all := lw_g (lw_at lw_m11 172 rfl) rfl
theorem q2684 : (Jvm.Cond.methodLink "GridTable$Table" (38 : Nat) ({ cls := "java/util/ArrayList", name := "clear", desc := "()V" } : Jvm.MethodName)) ∈ lw_all := lw_g (lw_at lw_m11 173 rfl) rfl
theorem q2688 : (Jvm.Cond.methodLink "GridTable$Table" (60 : Nat) ({ cls := "java/lang/Integer", name := "valueOf", desc := "(I)Ljava/lang/Integer;" } : Jvm.MethodName)) ∈ lw_all := lw_g (lw_at lw_m11 177 rfl) rfl
theorem q2689 : (Jvm.Cond.methodLink "GridTable$Table" (70 : Nat) ({ cls := "GridTable$Table$Shape", name := "<init>", desc := "(LGridTable$Table;Ljava/util/List;)V" } : Jvm.MethodName)) ∈ lw_all := lw_g (lw_at lw_m11 178 rfl) rfl
theorem q2690 : (Jvm.Cond.methodLink "GridTable$Table" (73 : Nat) ({ cls := "java/util/ArrayList", name := "addAll", desc := "(Ljava/util/Collection;)Z" } : Jvm.MethodName)) ∈ lw_all := lw_g (lw_at lw_m11 179 rfl) rfl
theorem q2704 : (Jvm.Cond.methodLink "GridTable$Table" (77 : Nat) ({ cls := "GridTable$Table", name := "where", desc := "()[I" } : Jvm.MethodName)) ∈ lw_all := lw_g (lw_at lw_m11 193 rfl) rfl
theorem q2705 : (Jvm.Cond.methodLink "GridTable$Table" (81 : Nat) ({ cls := "GridTable$Table", name := "bring", desc := "([I)V" } : Jvm.MethodName)) ∈ lw_all := lw_g (lw_at lw_m11 194 rfl) rfl
theorem q3331 : (Jvm.Cond.castable "GridTable$Table" "java/lang/Object") ∈ lw_tbl := lw_at lw_m14 100 rfl
theorem in_X3 : ∀ w ∈ wsX30, w ∈ lw_all := lw_in wsX30 [271, 273, 275, 277, 279, 281, 283] (by decide +kernel) (by decide +kernel)

/-! java/util/AbstractCollection -/
set_option maxRecDepth 100000
def RJ0 : String := "java/util/AbstractCollection"
abbrev cJ0_init : ByteArray := prog_72_method_1_code
def yJ0_init : MethodName := ⟨RJ0, "<init>", "()V"⟩
theorem dJ0_init_0 : decode cJ0_init 0 = .ok (.aload_n 0, 1) := by decide +kernel
theorem dJ0_init_1 : decode cJ0_init 1 = .ok (.invokespecial 1, 3) := by decide +kernel
theorem dJ0_init_4 : decode cJ0_init 4 = .ok (.return_, 1) := by decide +kernel
theorem q115 : (Jvm.Cond.initialized "java/util/AbstractCollection") ∈ lw_all := lw_g (lw_at lw_m1 4 rfl) rfl
theorem q216 : (Jvm.Cond.instanceMethod ({ cls := "java/util/AbstractCollection", name := "<init>", desc := "()V" } : Jvm.MethodName)) ∈ lw_all := lw_g (lw_at lw_m1 105 rfl) rfl
theorem q217 : (Jvm.Cond.code ({ cls := "java/util/AbstractCollection", name := "<init>", desc := "()V" } : Jvm.MethodName) prog_72_method_1_code (1 : Nat) (Option.none : Option Jvm.ClassFile.FieldType)) ∈ lw_all := lw_g (lw_at lw_m1 106 rfl) rfl
theorem q218 : (Jvm.Cond.methodLink "java/util/AbstractCollection" (1 : Nat) ({ cls := "java/lang/Object", name := "<init>", desc := "()V" } : Jvm.MethodName)) ∈ lw_all := lw_g (lw_at lw_m1 107 rfl) rfl

/-! java/util/AbstractList -/
set_option maxRecDepth 100000
def RJ1 : String := "java/util/AbstractList"
abbrev cJ1_init : ByteArray := prog_73_method_1_code
def yJ1_init : MethodName := ⟨RJ1, "<init>", "()V"⟩
def dkwJ1_init_0 : List UInt8 := [42, 183, 0, 1, 42, 3, 181, 0, 7, 177]
abbrev dktJ1_init_0 : List UInt8 := dkwJ1_init_0 ++ []
theorem dksJ1_init_0 : cJ1_init.data.toList.drop 0 = dktJ1_init_0 := by decide +kernel
theorem dJ1_init_0 : decode cJ1_init 0 = .ok (.aload_n 0, 1) := dk_42 (dk_at dksJ1_init_0 0 rfl rfl)
theorem dJ1_init_1 : decode cJ1_init 1 = .ok (.invokespecial 1, 3) := dk_183 0 1 (dk_at dksJ1_init_0 1 rfl rfl)
theorem dJ1_init_4 : decode cJ1_init 4 = .ok (.aload_n 0, 1) := dk_42 (dk_at dksJ1_init_0 4 rfl rfl)
theorem dJ1_init_5 : decode cJ1_init 5 = .ok (.iconst 0, 1) := dk_3 (dk_at dksJ1_init_0 5 rfl rfl)
theorem dJ1_init_6 : decode cJ1_init 6 = .ok (.putfield 7, 3) := dk_181 0 7 (dk_at dksJ1_init_0 6 rfl rfl)
theorem dJ1_init_9 : decode cJ1_init 9 = .ok (.return_, 1) := dk_177 (dk_at dksJ1_init_0 9 rfl rfl)
theorem q116 : (Jvm.Cond.initialized "java/util/AbstractList") ∈ lw_all := lw_g (lw_at lw_m1 5 rfl) rfl
theorem q213 : (Jvm.Cond.instanceMethod ({ cls := "java/util/AbstractList", name := "<init>", desc := "()V" } : Jvm.MethodName)) ∈ lw_all := lw_g (lw_at lw_m1 102 rfl) rfl
theorem q214 : (Jvm.Cond.code ({ cls := "java/util/AbstractList", name := "<init>", desc := "()V" } : Jvm.MethodName) prog_73_method_1_code (1 : Nat) (Option.none : Option Jvm.ClassFile.FieldType)) ∈ lw_all := lw_g (lw_at lw_m1 103 rfl) rfl
theorem q215 : (Jvm.Cond.methodLink "java/util/AbstractList" (1 : Nat) ({ cls := "java/util/AbstractCollection", name := "<init>", desc := "()V" } : Jvm.MethodName)) ∈ lw_all := lw_g (lw_at lw_m1 104 rfl) rfl
theorem q225 : (Jvm.Cond.fieldLink "java/util/AbstractList" (7 : Nat) "java/util/AbstractList" "modCount" "I") ∈ lw_all := lw_g (lw_at lw_m1 114 rfl) rfl
theorem q234 : (Jvm.Cond.soleField "java/util/AbstractList" "modCount") ∈ lw_all := lw_g (lw_at lw_m1 123 rfl) rfl

