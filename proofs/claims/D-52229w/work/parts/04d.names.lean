set_option maxRecDepth 100000
abbrev cX4_counted : ByteArray := prog_40_method_80_code
def yX4_counted : MethodName := ⟨RX4, "counted", "(I)I"⟩
def dkwX4_counted_4 : List UInt8 := [172, 42, 180, 0, 224, 172]
abbrev dktX4_counted_4 : List UInt8 := dkwX4_counted_4 ++ []
def dkwX4_counted_3 : List UInt8 := [42, 180, 1, 129, 172, 42, 180, 0, 189, 172, 42, 182, 1, 135, 172, 42, 182, 1, 138, 172, 42, 182, 1, 141]
abbrev dktX4_counted_3 : List UInt8 := dkwX4_counted_3 ++ dktX4_counted_4
def dkwX4_counted_2 : List UInt8 := [42, 180, 0, 20, 180, 0, 66, 172, 42, 180, 0, 20, 180, 0, 73, 172, 42, 180, 0, 20, 180, 0, 76, 172]
abbrev dktX4_counted_2 : List UInt8 := dkwX4_counted_2 ++ dktX4_counted_3
def dkwX4_counted_1 : List UInt8 := [170, 0, 0, 0, 0, 0, 96, 0, 0, 0, 0, 0, 0, 0, 7, 0, 0, 0, 47, 0, 0, 0, 55, 0, 0, 0, 63, 0, 0, 0, 71, 0, 0, 0, 76, 0, 0, 0, 81, 0, 0, 0, 86, 0, 0, 0, 91]
abbrev dktX4_counted_1 : List UInt8 := dkwX4_counted_1 ++ dktX4_counted_2
def dkwX4_counted_0 : List UInt8 := [27]
abbrev dktX4_counted_0 : List UInt8 := dkwX4_counted_0 ++ dktX4_counted_1
theorem dksX4_counted_0 : cX4_counted.data.toList.drop 0 = dktX4_counted_0 := by decide +kernel
theorem dksX4_counted_1 : cX4_counted.data.toList.drop 1 = dktX4_counted_1 := dk_seg dksX4_counted_0 1 rfl rfl
theorem dksX4_counted_2 : cX4_counted.data.toList.drop 48 = dktX4_counted_2 := dk_seg dksX4_counted_1 47 rfl rfl
theorem dksX4_counted_3 : cX4_counted.data.toList.drop 72 = dktX4_counted_3 := dk_seg dksX4_counted_2 24 rfl rfl
theorem dksX4_counted_4 : cX4_counted.data.toList.drop 96 = dktX4_counted_4 := dk_seg dksX4_counted_3 24 rfl rfl
theorem dX4_counted_0 : decode cX4_counted 0 = .ok (.iload_n 1, 1) := dk_27 (dk_at dksX4_counted_0 0 rfl rfl)
theorem dX4_counted_1 : decode cX4_counted 1 = .ok (.tableswitch 96 0 7 #[47, 55, 63, 71, 76, 81, 86, 91], 47) := by decide +kernel
theorem dX4_counted_48 : decode cX4_counted 48 = .ok (.aload_n 0, 1) := dk_42 (dk_at dksX4_counted_2 0 rfl rfl)
theorem dX4_counted_49 : decode cX4_counted 49 = .ok (.getfield 20, 3) := dk_180 0 20 (dk_at dksX4_counted_2 1 rfl rfl)
theorem dX4_counted_52 : decode cX4_counted 52 = .ok (.getfield 66, 3) := dk_180 0 66 (dk_at dksX4_counted_2 4 rfl rfl)
theorem dX4_counted_55 : decode cX4_counted 55 = .ok (.ireturn, 1) := dk_172 (dk_at dksX4_counted_2 7 rfl rfl)
theorem dX4_counted_56 : decode cX4_counted 56 = .ok (.aload_n 0, 1) := dk_42 (dk_at dksX4_counted_2 8 rfl rfl)
theorem dX4_counted_57 : decode cX4_counted 57 = .ok (.getfield 20, 3) := dk_180 0 20 (dk_at dksX4_counted_2 9 rfl rfl)
theorem dX4_counted_60 : decode cX4_counted 60 = .ok (.getfield 73, 3) := dk_180 0 73 (dk_at dksX4_counted_2 12 rfl rfl)
theorem dX4_counted_63 : decode cX4_counted 63 = .ok (.ireturn, 1) := dk_172 (dk_at dksX4_counted_2 15 rfl rfl)
theorem dX4_counted_64 : decode cX4_counted 64 = .ok (.aload_n 0, 1) := dk_42 (dk_at dksX4_counted_2 16 rfl rfl)
theorem dX4_counted_65 : decode cX4_counted 65 = .ok (.getfield 20, 3) := dk_180 0 20 (dk_at dksX4_counted_2 17 rfl rfl)
theorem dX4_counted_68 : decode cX4_counted 68 = .ok (.getfield 76, 3) := dk_180 0 76 (dk_at dksX4_counted_2 20 rfl rfl)
theorem dX4_counted_71 : decode cX4_counted 71 = .ok (.ireturn, 1) := dk_172 (dk_at dksX4_counted_2 23 rfl rfl)
theorem dX4_counted_72 : decode cX4_counted 72 = .ok (.aload_n 0, 1) := dk_42 (dk_at dksX4_counted_3 0 rfl rfl)
theorem dX4_counted_73 : decode cX4_counted 73 = .ok (.getfield 385, 3) := dk_180 1 129 (dk_at dksX4_counted_3 1 rfl rfl)
theorem dX4_counted_76 : decode cX4_counted 76 = .ok (.ireturn, 1) := dk_172 (dk_at dksX4_counted_3 4 rfl rfl)
theorem dX4_counted_77 : decode cX4_counted 77 = .ok (.aload_n 0, 1) := dk_42 (dk_at dksX4_counted_3 5 rfl rfl)
theorem dX4_counted_78 : decode cX4_counted 78 = .ok (.getfield 189, 3) := dk_180 0 189 (dk_at dksX4_counted_3 6 rfl rfl)
theorem dX4_counted_81 : decode cX4_counted 81 = .ok (.ireturn, 1) := dk_172 (dk_at dksX4_counted_3 9 rfl rfl)
theorem dX4_counted_82 : decode cX4_counted 82 = .ok (.aload_n 0, 1) := dk_42 (dk_at dksX4_counted_3 10 rfl rfl)
theorem dX4_counted_83 : decode cX4_counted 83 = .ok (.invokevirtual 391, 3) := dk_182 1 135 (dk_at dksX4_counted_3 11 rfl rfl)
theorem dX4_counted_86 : decode cX4_counted 86 = .ok (.ireturn, 1) := dk_172 (dk_at dksX4_counted_3 14 rfl rfl)
theorem dX4_counted_87 : decode cX4_counted 87 = .ok (.aload_n 0, 1) := dk_42 (dk_at dksX4_counted_3 15 rfl rfl)
theorem dX4_counted_88 : decode cX4_counted 88 = .ok (.invokevirtual 394, 3) := dk_182 1 138 (dk_at dksX4_counted_3 16 rfl rfl)
theorem dX4_counted_91 : decode cX4_counted 91 = .ok (.ireturn, 1) := dk_172 (dk_at dksX4_counted_3 19 rfl rfl)
theorem dX4_counted_92 : decode cX4_counted 92 = .ok (.aload_n 0, 1) := dk_42 (dk_at dksX4_counted_3 20 rfl rfl)
theorem dX4_counted_93 : decode cX4_counted 93 = .ok (.invokevirtual 397, 3) := dk_182 1 141 (dk_at dksX4_counted_3 21 rfl rfl)
theorem dX4_counted_96 : decode cX4_counted 96 = .ok (.ireturn, 1) := dk_172 (dk_at dksX4_counted_4 0 rfl rfl)
theorem dX4_counted_97 : decode cX4_counted 97 = .ok (.aload_n 0, 1) := dk_42 (dk_at dksX4_counted_4 1 rfl rfl)
theorem dX4_counted_98 : decode cX4_counted 98 = .ok (.getfield 224, 3) := dk_180 0 224 (dk_at dksX4_counted_4 2 rfl rfl)
theorem dX4_counted_101 : decode cX4_counted 101 = .ok (.ireturn, 1) := dk_172 (dk_at dksX4_counted_4 5 rfl rfl)
abbrev cX4_areas : ByteArray := prog_40_method_76_code
def yX4_areas : MethodName := ⟨RX4, "areas", "()I"⟩
def dkwX4_areas_1 : List UInt8 := [132, 2, 1, 167, 255, 234, 27, 172]
abbrev dktX4_areas_1 : List UInt8 := dkwX4_areas_1 ++ []
def dkwX4_areas_0 : List UInt8 := [3, 60, 3, 61, 28, 42, 180, 0, 20, 180, 0, 73, 162, 0, 17, 27, 42, 28, 182, 0, 167, 96, 60]
abbrev dktX4_areas_0 : List UInt8 := dkwX4_areas_0 ++ dktX4_areas_1
theorem dksX4_areas_0 : cX4_areas.data.toList.drop 0 = dktX4_areas_0 := by decide +kernel
theorem dksX4_areas_1 : cX4_areas.data.toList.drop 23 = dktX4_areas_1 := dk_seg dksX4_areas_0 23 rfl rfl
theorem dX4_areas_0 : decode cX4_areas 0 = .ok (.iconst 0, 1) := dk_3 (dk_at dksX4_areas_0 0 rfl rfl)
theorem dX4_areas_1 : decode cX4_areas 1 = .ok (.istore_n 1, 1) := dk_60 (dk_at dksX4_areas_0 1 rfl rfl)
theorem dX4_areas_2 : decode cX4_areas 2 = .ok (.iconst 0, 1) := dk_3 (dk_at dksX4_areas_0 2 rfl rfl)
theorem dX4_areas_3 : decode cX4_areas 3 = .ok (.istore_n 2, 1) := dk_61 (dk_at dksX4_areas_0 3 rfl rfl)
theorem dX4_areas_4 : decode cX4_areas 4 = .ok (.iload_n 2, 1) := dk_28 (dk_at dksX4_areas_0 4 rfl rfl)
theorem dX4_areas_5 : decode cX4_areas 5 = .ok (.aload_n 0, 1) := dk_42 (dk_at dksX4_areas_0 5 rfl rfl)
theorem dX4_areas_6 : decode cX4_areas 6 = .ok (.getfield 20, 3) := dk_180 0 20 (dk_at dksX4_areas_0 6 rfl rfl)
theorem dX4_areas_9 : decode cX4_areas 9 = .ok (.getfield 73, 3) := dk_180 0 73 (dk_at dksX4_areas_0 9 rfl rfl)
theorem dX4_areas_12 : decode cX4_areas 12 = .ok (.if_icmp .ge 17, 3) := dk_162 0 17 (dk_at dksX4_areas_0 12 rfl rfl)
theorem dX4_areas_15 : decode cX4_areas 15 = .ok (.iload_n 1, 1) := dk_27 (dk_at dksX4_areas_0 15 rfl rfl)
theorem dX4_areas_16 : decode cX4_areas 16 = .ok (.aload_n 0, 1) := dk_42 (dk_at dksX4_areas_0 16 rfl rfl)
theorem dX4_areas_17 : decode cX4_areas 17 = .ok (.iload_n 2, 1) := dk_28 (dk_at dksX4_areas_0 17 rfl rfl)
theorem dX4_areas_18 : decode cX4_areas 18 = .ok (.invokevirtual 167, 3) := dk_182 0 167 (dk_at dksX4_areas_0 18 rfl rfl)
theorem dX4_areas_21 : decode cX4_areas 21 = .ok (.iadd, 1) := dk_96 (dk_at dksX4_areas_0 21 rfl rfl)
theorem dX4_areas_22 : decode cX4_areas 22 = .ok (.istore_n 1, 1) := dk_60 (dk_at dksX4_areas_0 22 rfl rfl)
theorem dX4_areas_23 : decode cX4_areas 23 = .ok (.iinc 2 1, 3) := dk_132 2 1 (dk_at dksX4_areas_1 0 rfl rfl)
theorem dX4_areas_26 : decode cX4_areas 26 = .ok (.goto (-22), 3) := dk_167 255 234 (dk_at dksX4_areas_1 3 rfl rfl)
theorem dX4_areas_29 : decode cX4_areas 29 = .ok (.iload_n 1, 1) := dk_27 (dk_at dksX4_areas_1 6 rfl rfl)
theorem dX4_areas_30 : decode cX4_areas 30 = .ok (.ireturn, 1) := dk_172 (dk_at dksX4_areas_1 7 rfl rfl)
abbrev cX4_allCrossings : ByteArray := prog_40_method_77_code
def yX4_allCrossings : MethodName := ⟨RX4, "allCrossings", "()I"⟩
def dkwX4_allCrossings_2 : List UInt8 := [167, 255, 214, 27, 172]
abbrev dktX4_allCrossings_2 : List UInt8 := dkwX4_allCrossings_2 ++ []
def dkwX4_allCrossings_1 : List UInt8 := [180, 0, 73, 162, 0, 18, 27, 42, 28, 29, 182, 0, 170, 96, 60, 132, 3, 1, 167, 255, 233, 132, 2, 1]
abbrev dktX4_allCrossings_1 : List UInt8 := dkwX4_allCrossings_1 ++ dktX4_allCrossings_2
def dkwX4_allCrossings_0 : List UInt8 := [3, 60, 3, 61, 28, 42, 180, 0, 20, 180, 0, 73, 162, 0, 37, 28, 62, 29, 42, 180, 0, 20]
abbrev dktX4_allCrossings_0 : List UInt8 := dkwX4_allCrossings_0 ++ dktX4_allCrossings_1
theorem dksX4_allCrossings_0 : cX4_allCrossings.data.toList.drop 0 = dktX4_allCrossings_0 := by decide +kernel
theorem dksX4_allCrossings_1 : cX4_allCrossings.data.toList.drop 22 = dktX4_allCrossings_1 := dk_seg dksX4_allCrossings_0 22 rfl rfl
theorem dksX4_allCrossings_2 : cX4_allCrossings.data.toList.drop 46 = dktX4_allCrossings_2 := dk_seg dksX4_allCrossings_1 24 rfl rfl
theorem dX4_allCrossings_0 : decode cX4_allCrossings 0 = .ok (.iconst 0, 1) := dk_3 (dk_at dksX4_allCrossings_0 0 rfl rfl)
theorem dX4_allCrossings_1 : decode cX4_allCrossings 1 = .ok (.istore_n 1, 1) := dk_60 (dk_at dksX4_allCrossings_0 1 rfl rfl)
theorem dX4_allCrossings_2 : decode cX4_allCrossings 2 = .ok (.iconst 0, 1) := dk_3 (dk_at dksX4_allCrossings_0 2 rfl rfl)
theorem dX4_allCrossings_3 : decode cX4_allCrossings 3 = .ok (.istore_n 2, 1) := dk_61 (dk_at dksX4_allCrossings_0 3 rfl rfl)
theorem dX4_allCrossings_4 : decode cX4_allCrossings 4 = .ok (.iload_n 2, 1) := dk_28 (dk_at dksX4_allCrossings_0 4 rfl rfl)
theorem dX4_allCrossings_5 : decode cX4_allCrossings 5 = .ok (.aload_n 0, 1) := dk_42 (dk_at dksX4_allCrossings_0 5 rfl rfl)
theorem dX4_allCrossings_6 : decode cX4_allCrossings 6 = .ok (.getfield 20, 3) := dk_180 0 20 (dk_at dksX4_allCrossings_0 6 rfl rfl)
theorem dX4_allCrossings_9 : decode cX4_allCrossings 9 = .ok (.getfield 73, 3) := dk_180 0 73 (dk_at dksX4_allCrossings_0 9 rfl rfl)
theorem dX4_allCrossings_12 : decode cX4_allCrossings 12 = .ok (.if_icmp .ge 37, 3) := dk_162 0 37 (dk_at dksX4_allCrossings_0 12 rfl rfl)
theorem dX4_allCrossings_15 : decode cX4_allCrossings 15 = .ok (.iload_n 2, 1) := dk_28 (dk_at dksX4_allCrossings_0 15 rfl rfl)
theorem dX4_allCrossings_16 : decode cX4_allCrossings 16 = .ok (.istore_n 3, 1) := dk_62 (dk_at dksX4_allCrossings_0 16 rfl rfl)
theorem dX4_allCrossings_17 : decode cX4_allCrossings 17 = .ok (.iload_n 3, 1) := dk_29 (dk_at dksX4_allCrossings_0 17 rfl rfl)
theorem dX4_allCrossings_18 : decode cX4_allCrossings 18 = .ok (.aload_n 0, 1) := dk_42 (dk_at dksX4_allCrossings_0 18 rfl rfl)
theorem dX4_allCrossings_19 : decode cX4_allCrossings 19 = .ok (.getfield 20, 3) := dk_180 0 20 (dk_at dksX4_allCrossings_0 19 rfl rfl)
theorem dX4_allCrossings_22 : decode cX4_allCrossings 22 = .ok (.getfield 73, 3) := dk_180 0 73 (dk_at dksX4_allCrossings_1 0 rfl rfl)
theorem dX4_allCrossings_25 : decode cX4_allCrossings 25 = .ok (.if_icmp .ge 18, 3) := dk_162 0 18 (dk_at dksX4_allCrossings_1 3 rfl rfl)
theorem dX4_allCrossings_28 : decode cX4_allCrossings 28 = .ok (.iload_n 1, 1) := dk_27 (dk_at dksX4_allCrossings_1 6 rfl rfl)
theorem dX4_allCrossings_29 : decode cX4_allCrossings 29 = .ok (.aload_n 0, 1) := dk_42 (dk_at dksX4_allCrossings_1 7 rfl rfl)
theorem dX4_allCrossings_30 : decode cX4_allCrossings 30 = .ok (.iload_n 2, 1) := dk_28 (dk_at dksX4_allCrossings_1 8 rfl rfl)
theorem dX4_allCrossings_31 : decode cX4_allCrossings 31 = .ok (.iload_n 3, 1) := dk_29 (dk_at dksX4_allCrossings_1 9 rfl rfl)
theorem dX4_allCrossings_32 : decode cX4_allCrossings 32 = .ok (.invokevirtual 170, 3) := dk_182 0 170 (dk_at dksX4_allCrossings_1 10 rfl rfl)
theorem dX4_allCrossings_35 : decode cX4_allCrossings 35 = .ok (.iadd, 1) := dk_96 (dk_at dksX4_allCrossings_1 13 rfl rfl)
theorem dX4_allCrossings_36 : decode cX4_allCrossings 36 = .ok (.istore_n 1, 1) := dk_60 (dk_at dksX4_allCrossings_1 14 rfl rfl)
theorem dX4_allCrossings_37 : decode cX4_allCrossings 37 = .ok (.iinc 3 1, 3) := dk_132 3 1 (dk_at dksX4_allCrossings_1 15 rfl rfl)
theorem dX4_allCrossings_40 : decode cX4_allCrossings 40 = .ok (.goto (-23), 3) := dk_167 255 233 (dk_at dksX4_allCrossings_1 18 rfl rfl)
theorem dX4_allCrossings_43 : decode cX4_allCrossings 43 = .ok (.iinc 2 1, 3) := dk_132 2 1 (dk_at dksX4_allCrossings_1 21 rfl rfl)
theorem dX4_allCrossings_46 : decode cX4_allCrossings 46 = .ok (.goto (-42), 3) := dk_167 255 214 (dk_at dksX4_allCrossings_2 0 rfl rfl)
theorem dX4_allCrossings_49 : decode cX4_allCrossings 49 = .ok (.iload_n 1, 1) := dk_27 (dk_at dksX4_allCrossings_2 3 rfl rfl)
theorem dX4_allCrossings_50 : decode cX4_allCrossings 50 = .ok (.ireturn, 1) := dk_172 (dk_at dksX4_allCrossings_2 4 rfl rfl)
abbrev cX4_insiders : ByteArray := prog_40_method_79_code
def yX4_insiders : MethodName := ⟨RX4, "insiders", "()I"⟩
def dkwX4_insiders_1 : List UInt8 := [4, 167, 0, 4, 3, 96, 60, 132, 2, 1, 167, 255, 226, 27, 172]
abbrev dktX4_insiders_1 : List UInt8 := dkwX4_insiders_1 ++ []
def dkwX4_insiders_0 : List UInt8 := [3, 60, 3, 61, 28, 42, 180, 0, 20, 180, 0, 66, 162, 0, 25, 27, 42, 28, 182, 1, 132, 158, 0, 7]
abbrev dktX4_insiders_0 : List UInt8 := dkwX4_insiders_0 ++ dktX4_insiders_1
theorem dksX4_insiders_0 : cX4_insiders.data.toList.drop 0 = dktX4_insiders_0 := by decide +kernel
theorem dksX4_insiders_1 : cX4_insiders.data.toList.drop 24 = dktX4_insiders_1 := dk_seg dksX4_insiders_0 24 rfl rfl
theorem dX4_insiders_0 : decode cX4_insiders 0 = .ok (.iconst 0, 1) := dk_3 (dk_at dksX4_insiders_0 0 rfl rfl)
theorem dX4_insiders_1 : decode cX4_insiders 1 = .ok (.istore_n 1, 1) := dk_60 (dk_at dksX4_insiders_0 1 rfl rfl)
theorem dX4_insiders_2 : decode cX4_insiders 2 = .ok (.iconst 0, 1) := dk_3 (dk_at dksX4_insiders_0 2 rfl rfl)
theorem dX4_insiders_3 : decode cX4_insiders 3 = .ok (.istore_n 2, 1) := dk_61 (dk_at dksX4_insiders_0 3 rfl rfl)
theorem dX4_insiders_4 : decode cX4_insiders 4 = .ok (.iload_n 2, 1) := dk_28 (dk_at dksX4_insiders_0 4 rfl rfl)
theorem dX4_insiders_5 : decode cX4_insiders 5 = .ok (.aload_n 0, 1) := dk_42 (dk_at dksX4_insiders_0 5 rfl rfl)
theorem dX4_insiders_6 : decode cX4_insiders 6 = .ok (.getfield 20, 3) := dk_180 0 20 (dk_at dksX4_insiders_0 6 rfl rfl)
theorem dX4_insiders_9 : decode cX4_insiders 9 = .ok (.getfield 66, 3) := dk_180 0 66 (dk_at dksX4_insiders_0 9 rfl rfl)
theorem dX4_insiders_12 : decode cX4_insiders 12 = .ok (.if_icmp .ge 25, 3) := dk_162 0 25 (dk_at dksX4_insiders_0 12 rfl rfl)
theorem dX4_insiders_15 : decode cX4_insiders 15 = .ok (.iload_n 1, 1) := dk_27 (dk_at dksX4_insiders_0 15 rfl rfl)
theorem dX4_insiders_16 : decode cX4_insiders 16 = .ok (.aload_n 0, 1) := dk_42 (dk_at dksX4_insiders_0 16 rfl rfl)
theorem dX4_insiders_17 : decode cX4_insiders 17 = .ok (.iload_n 2, 1) := dk_28 (dk_at dksX4_insiders_0 17 rfl rfl)
theorem dX4_insiders_18 : decode cX4_insiders 18 = .ok (.invokevirtual 388, 3) := dk_182 1 132 (dk_at dksX4_insiders_0 18 rfl rfl)
theorem dX4_insiders_21 : decode cX4_insiders 21 = .ok (.ifCond .le 7, 3) := dk_158 0 7 (dk_at dksX4_insiders_0 21 rfl rfl)
theorem dX4_insiders_24 : decode cX4_insiders 24 = .ok (.iconst 1, 1) := dk_4 (dk_at dksX4_insiders_1 0 rfl rfl)
theorem dX4_insiders_25 : decode cX4_insiders 25 = .ok (.goto 4, 3) := dk_167 0 4 (dk_at dksX4_insiders_1 1 rfl rfl)
theorem dX4_insiders_28 : decode cX4_insiders 28 = .ok (.iconst 0, 1) := dk_3 (dk_at dksX4_insiders_1 4 rfl rfl)
theorem dX4_insiders_29 : decode cX4_insiders 29 = .ok (.iadd, 1) := dk_96 (dk_at dksX4_insiders_1 5 rfl rfl)
theorem dX4_insiders_30 : decode cX4_insiders 30 = .ok (.istore_n 1, 1) := dk_60 (dk_at dksX4_insiders_1 6 rfl rfl)
theorem dX4_insiders_31 : decode cX4_insiders 31 = .ok (.iinc 2 1, 3) := dk_132 2 1 (dk_at dksX4_insiders_1 7 rfl rfl)
theorem dX4_insiders_34 : decode cX4_insiders 34 = .ok (.goto (-30), 3) := dk_167 255 226 (dk_at dksX4_insiders_1 10 rfl rfl)
theorem dX4_insiders_37 : decode cX4_insiders 37 = .ok (.iload_n 1, 1) := dk_27 (dk_at dksX4_insiders_1 13 rfl rfl)
theorem dX4_insiders_38 : decode cX4_insiders 38 = .ok (.ireturn, 1) := dk_172 (dk_at dksX4_insiders_1 14 rfl rfl)
abbrev cX4_shapesAround : ByteArray := prog_40_method_78_code
def yX4_shapesAround : MethodName := ⟨RX4, "shapesAround", "(I)I"⟩
def dkwX4_shapesAround_1 : List UInt8 := [160, 0, 7, 4, 167, 0, 4, 3, 96, 61, 132, 3, 1, 167, 255, 224, 28, 172]
abbrev dktX4_shapesAround_1 : List UInt8 := dkwX4_shapesAround_1 ++ []
def dkwX4_shapesAround_0 : List UInt8 := [3, 61, 3, 62, 29, 42, 180, 0, 20, 180, 0, 73, 162, 0, 27, 28, 42, 27, 29, 182, 0, 155, 4]
abbrev dktX4_shapesAround_0 : List UInt8 := dkwX4_shapesAround_0 ++ dktX4_shapesAround_1
theorem dksX4_shapesAround_0 : cX4_shapesAround.data.toList.drop 0 = dktX4_shapesAround_0 := by decide +kernel
theorem dksX4_shapesAround_1 : cX4_shapesAround.data.toList.drop 23 = dktX4_shapesAround_1 := dk_seg dksX4_shapesAround_0 23 rfl rfl
theorem dX4_shapesAround_0 : decode cX4_shapesAround 0 = .ok (.iconst 0, 1) := dk_3 (dk_at dksX4_shapesAround_0 0 rfl rfl)
theorem dX4_shapesAround_1 : decode cX4_shapesAround 1 = .ok (.istore_n 2, 1) := dk_61 (dk_at dksX4_shapesAround_0 1 rfl rfl)
theorem dX4_shapesAround_2 : decode cX4_shapesAround 2 = .ok (.iconst 0, 1) := dk_3 (dk_at dksX4_shapesAround_0 2 rfl rfl)
theorem dX4_shapesAround_3 : decode cX4_shapesAround 3 = .ok (.istore_n 3, 1) := dk_62 (dk_at dksX4_shapesAround_0 3 rfl rfl)
theorem dX4_shapesAround_4 : decode cX4_shapesAround 4 = .ok (.iload_n 3, 1) := dk_29 (dk_at dksX4_shapesAround_0 4 rfl rfl)
theorem dX4_shapesAround_5 : decode cX4_shapesAround 5 = .ok (.aload_n 0, 1) := dk_42 (dk_at dksX4_shapesAround_0 5 rfl rfl)
theorem dX4_shapesAround_6 : decode cX4_shapesAround 6 = .ok (.getfield 20, 3) := dk_180 0 20 (dk_at dksX4_shapesAround_0 6 rfl rfl)
theorem dX4_shapesAround_9 : decode cX4_shapesAround 9 = .ok (.getfield 73, 3) := dk_180 0 73 (dk_at dksX4_shapesAround_0 9 rfl rfl)
theorem dX4_shapesAround_12 : decode cX4_shapesAround 12 = .ok (.if_icmp .ge 27, 3) := dk_162 0 27 (dk_at dksX4_shapesAround_0 12 rfl rfl)
theorem dX4_shapesAround_15 : decode cX4_shapesAround 15 = .ok (.iload_n 2, 1) := dk_28 (dk_at dksX4_shapesAround_0 15 rfl rfl)
theorem dX4_shapesAround_16 : decode cX4_shapesAround 16 = .ok (.aload_n 0, 1) := dk_42 (dk_at dksX4_shapesAround_0 16 rfl rfl)
theorem dX4_shapesAround_17 : decode cX4_shapesAround 17 = .ok (.iload_n 1, 1) := dk_27 (dk_at dksX4_shapesAround_0 17 rfl rfl)
theorem dX4_shapesAround_18 : decode cX4_shapesAround 18 = .ok (.iload_n 3, 1) := dk_29 (dk_at dksX4_shapesAround_0 18 rfl rfl)
theorem dX4_shapesAround_19 : decode cX4_shapesAround 19 = .ok (.invokevirtual 155, 3) := dk_182 0 155 (dk_at dksX4_shapesAround_0 19 rfl rfl)
theorem dX4_shapesAround_22 : decode cX4_shapesAround 22 = .ok (.iconst 1, 1) := dk_4 (dk_at dksX4_shapesAround_0 22 rfl rfl)
theorem dX4_shapesAround_23 : decode cX4_shapesAround 23 = .ok (.if_icmp .ne 7, 3) := dk_160 0 7 (dk_at dksX4_shapesAround_1 0 rfl rfl)
theorem dX4_shapesAround_26 : decode cX4_shapesAround 26 = .ok (.iconst 1, 1) := dk_4 (dk_at dksX4_shapesAround_1 3 rfl rfl)
theorem dX4_shapesAround_27 : decode cX4_shapesAround 27 = .ok (.goto 4, 3) := dk_167 0 4 (dk_at dksX4_shapesAround_1 4 rfl rfl)
theorem dX4_shapesAround_30 : decode cX4_shapesAround 30 = .ok (.iconst 0, 1) := dk_3 (dk_at dksX4_shapesAround_1 7 rfl rfl)
theorem dX4_shapesAround_31 : decode cX4_shapesAround 31 = .ok (.iadd, 1) := dk_96 (dk_at dksX4_shapesAround_1 8 rfl rfl)
theorem dX4_shapesAround_32 : decode cX4_shapesAround 32 = .ok (.istore_n 2, 1) := dk_61 (dk_at dksX4_shapesAround_1 9 rfl rfl)
theorem dX4_shapesAround_33 : decode cX4_shapesAround 33 = .ok (.iinc 3 1, 3) := dk_132 3 1 (dk_at dksX4_shapesAround_1 10 rfl rfl)
theorem dX4_shapesAround_36 : decode cX4_shapesAround 36 = .ok (.goto (-32), 3) := dk_167 255 224 (dk_at dksX4_shapesAround_1 13 rfl rfl)
theorem dX4_shapesAround_39 : decode cX4_shapesAround 39 = .ok (.iload_n 2, 1) := dk_28 (dk_at dksX4_shapesAround_1 16 rfl rfl)
theorem dX4_shapesAround_40 : decode cX4_shapesAround 40 = .ok (.ireturn, 1) := dk_172 (dk_at dksX4_shapesAround_1 17 rfl rfl)
abbrev cX4_liesOf : ByteArray := prog_40_method_19_code
def yX4_liesOf : MethodName := ⟨RX4, "liesOf", "(II)I"⟩
def dkwX4_liesOf_0 : List UInt8 := [42, 42, 180, 0, 44, 180, 0, 85, 27, 46, 42, 180, 0, 44, 180, 0, 88, 27, 46, 28, 182, 0, 125, 172]
abbrev dktX4_liesOf_0 : List UInt8 := dkwX4_liesOf_0 ++ []
theorem dksX4_liesOf_0 : cX4_liesOf.data.toList.drop 0 = dktX4_liesOf_0 := by decide +kernel
theorem dX4_liesOf_0 : decode cX4_liesOf 0 = .ok (.aload_n 0, 1) := dk_42 (dk_at dksX4_liesOf_0 0 rfl rfl)
theorem dX4_liesOf_1 : decode cX4_liesOf 1 = .ok (.aload_n 0, 1) := dk_42 (dk_at dksX4_liesOf_0 1 rfl rfl)
theorem dX4_liesOf_2 : decode cX4_liesOf 2 = .ok (.getfield 44, 3) := dk_180 0 44 (dk_at dksX4_liesOf_0 2 rfl rfl)
theorem dX4_liesOf_5 : decode cX4_liesOf 5 = .ok (.getfield 85, 3) := dk_180 0 85 (dk_at dksX4_liesOf_0 5 rfl rfl)
theorem dX4_liesOf_8 : decode cX4_liesOf 8 = .ok (.iload_n 1, 1) := dk_27 (dk_at dksX4_liesOf_0 8 rfl rfl)
theorem dX4_liesOf_9 : decode cX4_liesOf 9 = .ok (.iaload, 1) := dk_46 (dk_at dksX4_liesOf_0 9 rfl rfl)
theorem dX4_liesOf_10 : decode cX4_liesOf 10 = .ok (.aload_n 0, 1) := dk_42 (dk_at dksX4_liesOf_0 10 rfl rfl)
theorem dX4_liesOf_11 : decode cX4_liesOf 11 = .ok (.getfield 44, 3) := dk_180 0 44 (dk_at dksX4_liesOf_0 11 rfl rfl)
theorem dX4_liesOf_14 : decode cX4_liesOf 14 = .ok (.getfield 88, 3) := dk_180 0 88 (dk_at dksX4_liesOf_0 14 rfl rfl)
theorem dX4_liesOf_17 : decode cX4_liesOf 17 = .ok (.iload_n 1, 1) := dk_27 (dk_at dksX4_liesOf_0 17 rfl rfl)
theorem dX4_liesOf_18 : decode cX4_liesOf 18 = .ok (.iaload, 1) := dk_46 (dk_at dksX4_liesOf_0 18 rfl rfl)
theorem dX4_liesOf_19 : decode cX4_liesOf 19 = .ok (.iload_n 2, 1) := dk_28 (dk_at dksX4_liesOf_0 19 rfl rfl)
theorem dX4_liesOf_20 : decode cX4_liesOf 20 = .ok (.invokevirtual 125, 3) := dk_182 0 125 (dk_at dksX4_liesOf_0 20 rfl rfl)
theorem dX4_liesOf_23 : decode cX4_liesOf 23 = .ok (.ireturn, 1) := dk_172 (dk_at dksX4_liesOf_0 23 rfl rfl)
abbrev cX4_liesAt : ByteArray := prog_40_method_18_code
def yX4_liesAt : MethodName := ⟨RX4, "liesAt", "(III)I"⟩
def dkwX4_liesAt_9 : List UInt8 := [3, 130, 54, 4, 132, 5, 1, 167, 255, 44, 21, 4, 153, 0, 7, 4, 167, 0, 4, 2, 172]
abbrev dktX4_liesAt_9 : List UInt8 := dkwX4_liesAt_9 ++ []
def dkwX4_liesAt_8 : List UInt8 := [21, 9, 153, 0, 8, 21, 8, 157, 0, 13, 21, 10, 153, 0, 12, 21, 8, 156, 0, 7, 4, 167, 0, 4]
abbrev dktX4_liesAt_8 : List UInt8 := dkwX4_liesAt_8 ++ dktX4_liesAt_9
def dkwX4_liesAt_7 : List UInt8 := [42, 180, 0, 44, 180, 0, 88, 21, 6, 46, 28, 164, 0, 7, 4, 167, 0, 4, 3, 54, 10, 21, 4]
abbrev dktX4_liesAt_7 : List UInt8 := dkwX4_liesAt_7 ++ dktX4_liesAt_8
def dkwX4_liesAt_6 : List UInt8 := [164, 0, 7, 4, 167, 0, 4, 3, 54, 9, 42, 180, 0, 44, 180, 0, 88, 21, 7, 46, 28, 163, 0, 21]
abbrev dktX4_liesAt_6 : List UInt8 := dkwX4_liesAt_6 ++ dktX4_liesAt_7
def dkwX4_liesAt_5 : List UInt8 := [180, 0, 44, 180, 0, 88, 21, 6, 46, 28, 163, 0, 21, 42, 180, 0, 44, 180, 0, 88, 21, 7, 46, 28]
abbrev dktX4_liesAt_5 : List UInt8 := dkwX4_liesAt_5 ++ dktX4_liesAt_6
def dkwX4_liesAt_4 : List UInt8 := [21, 6, 46, 42, 180, 0, 44, 180, 0, 88, 21, 7, 46, 182, 0, 122, 153, 0, 5, 3, 172, 42]
abbrev dktX4_liesAt_4 : List UInt8 := dkwX4_liesAt_4 ++ dktX4_liesAt_5
def dkwX4_liesAt_3 : List UInt8 := [180, 0, 44, 180, 0, 85, 21, 7, 46, 182, 0, 122, 153, 0, 33, 42, 28, 42, 180, 0, 44, 180, 0, 88]
abbrev dktX4_liesAt_3 : List UInt8 := dkwX4_liesAt_3 ++ dktX4_liesAt_4
def dkwX4_liesAt_2 : List UInt8 := [182, 0, 91, 54, 8, 21, 8, 154, 0, 61, 42, 27, 42, 180, 0, 44, 180, 0, 85, 21, 6, 46, 42]
abbrev dktX4_liesAt_2 : List UInt8 := dkwX4_liesAt_2 ++ dktX4_liesAt_3
def dkwX4_liesAt_1 : List UInt8 := [182, 0, 95, 54, 6, 42, 29, 21, 5, 4, 96, 182, 0, 95, 54, 7, 42, 21, 6, 21, 7, 27, 28]
abbrev dktX4_liesAt_1 : List UInt8 := dkwX4_liesAt_1 ++ dktX4_liesAt_2
def dkwX4_liesAt_0 : List UInt8 := [3, 54, 4, 3, 54, 5, 21, 5, 42, 180, 0, 41, 180, 0, 82, 29, 46, 162, 0, 204, 42, 29, 21, 5]
abbrev dktX4_liesAt_0 : List UInt8 := dkwX4_liesAt_0 ++ dktX4_liesAt_1
theorem dksX4_liesAt_0 : cX4_liesAt.data.toList.drop 0 = dktX4_liesAt_0 := by decide +kernel
theorem dksX4_liesAt_1 : cX4_liesAt.data.toList.drop 24 = dktX4_liesAt_1 := dk_seg dksX4_liesAt_0 24 rfl rfl
theorem dksX4_liesAt_2 : cX4_liesAt.data.toList.drop 47 = dktX4_liesAt_2 := dk_seg dksX4_liesAt_1 23 rfl rfl
theorem dksX4_liesAt_3 : cX4_liesAt.data.toList.drop 70 = dktX4_liesAt_3 := dk_seg dksX4_liesAt_2 23 rfl rfl
theorem dksX4_liesAt_4 : cX4_liesAt.data.toList.drop 94 = dktX4_liesAt_4 := dk_seg dksX4_liesAt_3 24 rfl rfl
theorem dksX4_liesAt_5 : cX4_liesAt.data.toList.drop 116 = dktX4_liesAt_5 := dk_seg dksX4_liesAt_4 22 rfl rfl
theorem dksX4_liesAt_6 : cX4_liesAt.data.toList.drop 140 = dktX4_liesAt_6 := dk_seg dksX4_liesAt_5 24 rfl rfl
theorem dksX4_liesAt_7 : cX4_liesAt.data.toList.drop 164 = dktX4_liesAt_7 := dk_seg dksX4_liesAt_6 24 rfl rfl
theorem dksX4_liesAt_8 : cX4_liesAt.data.toList.drop 187 = dktX4_liesAt_8 := dk_seg dksX4_liesAt_7 23 rfl rfl
theorem dksX4_liesAt_9 : cX4_liesAt.data.toList.drop 211 = dktX4_liesAt_9 := dk_seg dksX4_liesAt_8 24 rfl rfl
theorem dX4_liesAt_0 : decode cX4_liesAt 0 = .ok (.iconst 0, 1) := dk_3 (dk_at dksX4_liesAt_0 0 rfl rfl)
theorem dX4_liesAt_1 : decode cX4_liesAt 1 = .ok (.istore 4, 2) := dk_54 4 (dk_at dksX4_liesAt_0 1 rfl rfl)
theorem dX4_liesAt_3 : decode cX4_liesAt 3 = .ok (.iconst 0, 1) := dk_3 (dk_at dksX4_liesAt_0 3 rfl rfl)
theorem dX4_liesAt_4 : decode cX4_liesAt 4 = .ok (.istore 5, 2) := dk_54 5 (dk_at dksX4_liesAt_0 4 rfl rfl)
theorem dX4_liesAt_6 : decode cX4_liesAt 6 = .ok (.iload 5, 2) := dk_21 5 (dk_at dksX4_liesAt_0 6 rfl rfl)
theorem dX4_liesAt_8 : decode cX4_liesAt 8 = .ok (.aload_n 0, 1) := dk_42 (dk_at dksX4_liesAt_0 8 rfl rfl)
theorem dX4_liesAt_9 : decode cX4_liesAt 9 = .ok (.getfield 41, 3) := dk_180 0 41 (dk_at dksX4_liesAt_0 9 rfl rfl)
theorem dX4_liesAt_12 : decode cX4_liesAt 12 = .ok (.getfield 82, 3) := dk_180 0 82 (dk_at dksX4_liesAt_0 12 rfl rfl)
theorem dX4_liesAt_15 : decode cX4_liesAt 15 = .ok (.iload_n 3, 1) := dk_29 (dk_at dksX4_liesAt_0 15 rfl rfl)
theorem dX4_liesAt_16 : decode cX4_liesAt 16 = .ok (.iaload, 1) := dk_46 (dk_at dksX4_liesAt_0 16 rfl rfl)
theorem dX4_liesAt_17 : decode cX4_liesAt 17 = .ok (.if_icmp .ge 204, 3) := dk_162 0 204 (dk_at dksX4_liesAt_0 17 rfl rfl)
theorem dX4_liesAt_20 : decode cX4_liesAt 20 = .ok (.aload_n 0, 1) := dk_42 (dk_at dksX4_liesAt_0 20 rfl rfl)
theorem dX4_liesAt_21 : decode cX4_liesAt 21 = .ok (.iload_n 3, 1) := dk_29 (dk_at dksX4_liesAt_0 21 rfl rfl)
theorem dX4_liesAt_22 : decode cX4_liesAt 22 = .ok (.iload 5, 2) := dk_21 5 (dk_at dksX4_liesAt_0 22 rfl rfl)
theorem dX4_liesAt_24 : decode cX4_liesAt 24 = .ok (.invokevirtual 95, 3) := dk_182 0 95 (dk_at dksX4_liesAt_1 0 rfl rfl)
theorem dX4_liesAt_27 : decode cX4_liesAt 27 = .ok (.istore 6, 2) := dk_54 6 (dk_at dksX4_liesAt_1 3 rfl rfl)
theorem dX4_liesAt_29 : decode cX4_liesAt 29 = .ok (.aload_n 0, 1) := dk_42 (dk_at dksX4_liesAt_1 5 rfl rfl)
theorem dX4_liesAt_30 : decode cX4_liesAt 30 = .ok (.iload_n 3, 1) := dk_29 (dk_at dksX4_liesAt_1 6 rfl rfl)
theorem dX4_liesAt_31 : decode cX4_liesAt 31 = .ok (.iload 5, 2) := dk_21 5 (dk_at dksX4_liesAt_1 7 rfl rfl)
theorem dX4_liesAt_33 : decode cX4_liesAt 33 = .ok (.iconst 1, 1) := dk_4 (dk_at dksX4_liesAt_1 9 rfl rfl)
theorem dX4_liesAt_34 : decode cX4_liesAt 34 = .ok (.iadd, 1) := dk_96 (dk_at dksX4_liesAt_1 10 rfl rfl)
theorem dX4_liesAt_35 : decode cX4_liesAt 35 = .ok (.invokevirtual 95, 3) := dk_182 0 95 (dk_at dksX4_liesAt_1 11 rfl rfl)
theorem dX4_liesAt_38 : decode cX4_liesAt 38 = .ok (.istore 7, 2) := dk_54 7 (dk_at dksX4_liesAt_1 14 rfl rfl)
theorem dX4_liesAt_40 : decode cX4_liesAt 40 = .ok (.aload_n 0, 1) := dk_42 (dk_at dksX4_liesAt_1 16 rfl rfl)
theorem dX4_liesAt_41 : decode cX4_liesAt 41 = .ok (.iload 6, 2) := dk_21 6 (dk_at dksX4_liesAt_1 17 rfl rfl)
theorem dX4_liesAt_43 : decode cX4_liesAt 43 = .ok (.iload 7, 2) := dk_21 7 (dk_at dksX4_liesAt_1 19 rfl rfl)
theorem dX4_liesAt_45 : decode cX4_liesAt 45 = .ok (.iload_n 1, 1) := dk_27 (dk_at dksX4_liesAt_1 21 rfl rfl)
theorem dX4_liesAt_46 : decode cX4_liesAt 46 = .ok (.iload_n 2, 1) := dk_28 (dk_at dksX4_liesAt_1 22 rfl rfl)
theorem dX4_liesAt_47 : decode cX4_liesAt 47 = .ok (.invokevirtual 91, 3) := dk_182 0 91 (dk_at dksX4_liesAt_2 0 rfl rfl)
theorem dX4_liesAt_50 : decode cX4_liesAt 50 = .ok (.istore 8, 2) := dk_54 8 (dk_at dksX4_liesAt_2 3 rfl rfl)
theorem dX4_liesAt_52 : decode cX4_liesAt 52 = .ok (.iload 8, 2) := dk_21 8 (dk_at dksX4_liesAt_2 5 rfl rfl)
theorem dX4_liesAt_54 : decode cX4_liesAt 54 = .ok (.ifCond .ne 61, 3) := dk_154 0 61 (dk_at dksX4_liesAt_2 7 rfl rfl)
theorem dX4_liesAt_57 : decode cX4_liesAt 57 = .ok (.aload_n 0, 1) := dk_42 (dk_at dksX4_liesAt_2 10 rfl rfl)
theorem dX4_liesAt_58 : decode cX4_liesAt 58 = .ok (.iload_n 1, 1) := dk_27 (dk_at dksX4_liesAt_2 11 rfl rfl)
theorem dX4_liesAt_59 : decode cX4_liesAt 59 = .ok (.aload_n 0, 1) := dk_42 (dk_at dksX4_liesAt_2 12 rfl rfl)
theorem dX4_liesAt_60 : decode cX4_liesAt 60 = .ok (.getfield 44, 3) := dk_180 0 44 (dk_at dksX4_liesAt_2 13 rfl rfl)
theorem dX4_liesAt_63 : decode cX4_liesAt 63 = .ok (.getfield 85, 3) := dk_180 0 85 (dk_at dksX4_liesAt_2 16 rfl rfl)
theorem dX4_liesAt_66 : decode cX4_liesAt 66 = .ok (.iload 6, 2) := dk_21 6 (dk_at dksX4_liesAt_2 19 rfl rfl)
theorem dX4_liesAt_68 : decode cX4_liesAt 68 = .ok (.iaload, 1) := dk_46 (dk_at dksX4_liesAt_2 21 rfl rfl)
theorem dX4_liesAt_69 : decode cX4_liesAt 69 = .ok (.aload_n 0, 1) := dk_42 (dk_at dksX4_liesAt_2 22 rfl rfl)
theorem dX4_liesAt_70 : decode cX4_liesAt 70 = .ok (.getfield 44, 3) := dk_180 0 44 (dk_at dksX4_liesAt_3 0 rfl rfl)
theorem dX4_liesAt_73 : decode cX4_liesAt 73 = .ok (.getfield 85, 3) := dk_180 0 85 (dk_at dksX4_liesAt_3 3 rfl rfl)
theorem dX4_liesAt_76 : decode cX4_liesAt 76 = .ok (.iload 7, 2) := dk_21 7 (dk_at dksX4_liesAt_3 6 rfl rfl)
theorem dX4_liesAt_78 : decode cX4_liesAt 78 = .ok (.iaload, 1) := dk_46 (dk_at dksX4_liesAt_3 8 rfl rfl)
theorem dX4_liesAt_79 : decode cX4_liesAt 79 = .ok (.invokevirtual 122, 3) := dk_182 0 122 (dk_at dksX4_liesAt_3 9 rfl rfl)
theorem dX4_liesAt_82 : decode cX4_liesAt 82 = .ok (.ifCond .eq 33, 3) := dk_153 0 33 (dk_at dksX4_liesAt_3 12 rfl rfl)
theorem dX4_liesAt_85 : decode cX4_liesAt 85 = .ok (.aload_n 0, 1) := dk_42 (dk_at dksX4_liesAt_3 15 rfl rfl)
theorem dX4_liesAt_86 : decode cX4_liesAt 86 = .ok (.iload_n 2, 1) := dk_28 (dk_at dksX4_liesAt_3 16 rfl rfl)
theorem dX4_liesAt_87 : decode cX4_liesAt 87 = .ok (.aload_n 0, 1) := dk_42 (dk_at dksX4_liesAt_3 17 rfl rfl)
theorem dX4_liesAt_88 : decode cX4_liesAt 88 = .ok (.getfield 44, 3) := dk_180 0 44 (dk_at dksX4_liesAt_3 18 rfl rfl)
theorem dX4_liesAt_91 : decode cX4_liesAt 91 = .ok (.getfield 88, 3) := dk_180 0 88 (dk_at dksX4_liesAt_3 21 rfl rfl)
theorem dX4_liesAt_94 : decode cX4_liesAt 94 = .ok (.iload 6, 2) := dk_21 6 (dk_at dksX4_liesAt_4 0 rfl rfl)
theorem dX4_liesAt_96 : decode cX4_liesAt 96 = .ok (.iaload, 1) := dk_46 (dk_at dksX4_liesAt_4 2 rfl rfl)
theorem dX4_liesAt_97 : decode cX4_liesAt 97 = .ok (.aload_n 0, 1) := dk_42 (dk_at dksX4_liesAt_4 3 rfl rfl)
theorem dX4_liesAt_98 : decode cX4_liesAt 98 = .ok (.getfield 44, 3) := dk_180 0 44 (dk_at dksX4_liesAt_4 4 rfl rfl)
theorem dX4_liesAt_101 : decode cX4_liesAt 101 = .ok (.getfield 88, 3) := dk_180 0 88 (dk_at dksX4_liesAt_4 7 rfl rfl)
theorem dX4_liesAt_104 : decode cX4_liesAt 104 = .ok (.iload 7, 2) := dk_21 7 (dk_at dksX4_liesAt_4 10 rfl rfl)
theorem dX4_liesAt_106 : decode cX4_liesAt 106 = .ok (.iaload, 1) := dk_46 (dk_at dksX4_liesAt_4 12 rfl rfl)
theorem dX4_liesAt_107 : decode cX4_liesAt 107 = .ok (.invokevirtual 122, 3) := dk_182 0 122 (dk_at dksX4_liesAt_4 13 rfl rfl)
theorem dX4_liesAt_110 : decode cX4_liesAt 110 = .ok (.ifCond .eq 5, 3) := dk_153 0 5 (dk_at dksX4_liesAt_4 16 rfl rfl)
theorem dX4_liesAt_113 : decode cX4_liesAt 113 = .ok (.iconst 0, 1) := dk_3 (dk_at dksX4_liesAt_4 19 rfl rfl)
theorem dX4_liesAt_114 : decode cX4_liesAt 114 = .ok (.ireturn, 1) := dk_172 (dk_at dksX4_liesAt_4 20 rfl rfl)
theorem dX4_liesAt_115 : decode cX4_liesAt 115 = .ok (.aload_n 0, 1) := dk_42 (dk_at dksX4_liesAt_4 21 rfl rfl)
theorem dX4_liesAt_116 : decode cX4_liesAt 116 = .ok (.getfield 44, 3) := dk_180 0 44 (dk_at dksX4_liesAt_5 0 rfl rfl)
theorem dX4_liesAt_119 : decode cX4_liesAt 119 = .ok (.getfield 88, 3) := dk_180 0 88 (dk_at dksX4_liesAt_5 3 rfl rfl)
theorem dX4_liesAt_122 : decode cX4_liesAt 122 = .ok (.iload 6, 2) := dk_21 6 (dk_at dksX4_liesAt_5 6 rfl rfl)
theorem dX4_liesAt_124 : decode cX4_liesAt 124 = .ok (.iaload, 1) := dk_46 (dk_at dksX4_liesAt_5 8 rfl rfl)
theorem dX4_liesAt_125 : decode cX4_liesAt 125 = .ok (.iload_n 2, 1) := dk_28 (dk_at dksX4_liesAt_5 9 rfl rfl)
theorem dX4_liesAt_126 : decode cX4_liesAt 126 = .ok (.if_icmp .gt 21, 3) := dk_163 0 21 (dk_at dksX4_liesAt_5 10 rfl rfl)
theorem dX4_liesAt_129 : decode cX4_liesAt 129 = .ok (.aload_n 0, 1) := dk_42 (dk_at dksX4_liesAt_5 13 rfl rfl)
theorem dX4_liesAt_130 : decode cX4_liesAt 130 = .ok (.getfield 44, 3) := dk_180 0 44 (dk_at dksX4_liesAt_5 14 rfl rfl)
theorem dX4_liesAt_133 : decode cX4_liesAt 133 = .ok (.getfield 88, 3) := dk_180 0 88 (dk_at dksX4_liesAt_5 17 rfl rfl)
theorem dX4_liesAt_136 : decode cX4_liesAt 136 = .ok (.iload 7, 2) := dk_21 7 (dk_at dksX4_liesAt_5 20 rfl rfl)
theorem dX4_liesAt_138 : decode cX4_liesAt 138 = .ok (.iaload, 1) := dk_46 (dk_at dksX4_liesAt_5 22 rfl rfl)
theorem dX4_liesAt_139 : decode cX4_liesAt 139 = .ok (.iload_n 2, 1) := dk_28 (dk_at dksX4_liesAt_5 23 rfl rfl)
theorem dX4_liesAt_140 : decode cX4_liesAt 140 = .ok (.if_icmp .le 7, 3) := dk_164 0 7 (dk_at dksX4_liesAt_6 0 rfl rfl)
theorem dX4_liesAt_143 : decode cX4_liesAt 143 = .ok (.iconst 1, 1) := dk_4 (dk_at dksX4_liesAt_6 3 rfl rfl)
theorem dX4_liesAt_144 : decode cX4_liesAt 144 = .ok (.goto 4, 3) := dk_167 0 4 (dk_at dksX4_liesAt_6 4 rfl rfl)
theorem dX4_liesAt_147 : decode cX4_liesAt 147 = .ok (.iconst 0, 1) := dk_3 (dk_at dksX4_liesAt_6 7 rfl rfl)
theorem dX4_liesAt_148 : decode cX4_liesAt 148 = .ok (.istore 9, 2) := dk_54 9 (dk_at dksX4_liesAt_6 8 rfl rfl)
theorem dX4_liesAt_150 : decode cX4_liesAt 150 = .ok (.aload_n 0, 1) := dk_42 (dk_at dksX4_liesAt_6 10 rfl rfl)
theorem dX4_liesAt_151 : decode cX4_liesAt 151 = .ok (.getfield 44, 3) := dk_180 0 44 (dk_at dksX4_liesAt_6 11 rfl rfl)
theorem dX4_liesAt_154 : decode cX4_liesAt 154 = .ok (.getfield 88, 3) := dk_180 0 88 (dk_at dksX4_liesAt_6 14 rfl rfl)
theorem dX4_liesAt_157 : decode cX4_liesAt 157 = .ok (.iload 7, 2) := dk_21 7 (dk_at dksX4_liesAt_6 17 rfl rfl)
theorem dX4_liesAt_159 : decode cX4_liesAt 159 = .ok (.iaload, 1) := dk_46 (dk_at dksX4_liesAt_6 19 rfl rfl)
theorem dX4_liesAt_160 : decode cX4_liesAt 160 = .ok (.iload_n 2, 1) := dk_28 (dk_at dksX4_liesAt_6 20 rfl rfl)
theorem dX4_liesAt_161 : decode cX4_liesAt 161 = .ok (.if_icmp .gt 21, 3) := dk_163 0 21 (dk_at dksX4_liesAt_6 21 rfl rfl)
theorem dX4_liesAt_164 : decode cX4_liesAt 164 = .ok (.aload_n 0, 1) := dk_42 (dk_at dksX4_liesAt_7 0 rfl rfl)
theorem dX4_liesAt_165 : decode cX4_liesAt 165 = .ok (.getfield 44, 3) := dk_180 0 44 (dk_at dksX4_liesAt_7 1 rfl rfl)
theorem dX4_liesAt_168 : decode cX4_liesAt 168 = .ok (.getfield 88, 3) := dk_180 0 88 (dk_at dksX4_liesAt_7 4 rfl rfl)
theorem dX4_liesAt_171 : decode cX4_liesAt 171 = .ok (.iload 6, 2) := dk_21 6 (dk_at dksX4_liesAt_7 7 rfl rfl)
theorem dX4_liesAt_173 : decode cX4_liesAt 173 = .ok (.iaload, 1) := dk_46 (dk_at dksX4_liesAt_7 9 rfl rfl)
theorem dX4_liesAt_174 : decode cX4_liesAt 174 = .ok (.iload_n 2, 1) := dk_28 (dk_at dksX4_liesAt_7 10 rfl rfl)
theorem dX4_liesAt_175 : decode cX4_liesAt 175 = .ok (.if_icmp .le 7, 3) := dk_164 0 7 (dk_at dksX4_liesAt_7 11 rfl rfl)
theorem dX4_liesAt_178 : decode cX4_liesAt 178 = .ok (.iconst 1, 1) := dk_4 (dk_at dksX4_liesAt_7 14 rfl rfl)
theorem dX4_liesAt_179 : decode cX4_liesAt 179 = .ok (.goto 4, 3) := dk_167 0 4 (dk_at dksX4_liesAt_7 15 rfl rfl)
theorem dX4_liesAt_182 : decode cX4_liesAt 182 = .ok (.iconst 0, 1) := dk_3 (dk_at dksX4_liesAt_7 18 rfl rfl)
theorem dX4_liesAt_183 : decode cX4_liesAt 183 = .ok (.istore 10, 2) := dk_54 10 (dk_at dksX4_liesAt_7 19 rfl rfl)
theorem dX4_liesAt_185 : decode cX4_liesAt 185 = .ok (.iload 4, 2) := dk_21 4 (dk_at dksX4_liesAt_7 21 rfl rfl)
theorem dX4_liesAt_187 : decode cX4_liesAt 187 = .ok (.iload 9, 2) := dk_21 9 (dk_at dksX4_liesAt_8 0 rfl rfl)
theorem dX4_liesAt_189 : decode cX4_liesAt 189 = .ok (.ifCond .eq 8, 3) := dk_153 0 8 (dk_at dksX4_liesAt_8 2 rfl rfl)
theorem dX4_liesAt_192 : decode cX4_liesAt 192 = .ok (.iload 8, 2) := dk_21 8 (dk_at dksX4_liesAt_8 5 rfl rfl)
theorem dX4_liesAt_194 : decode cX4_liesAt 194 = .ok (.ifCond .gt 13, 3) := dk_157 0 13 (dk_at dksX4_liesAt_8 7 rfl rfl)
theorem dX4_liesAt_197 : decode cX4_liesAt 197 = .ok (.iload 10, 2) := dk_21 10 (dk_at dksX4_liesAt_8 10 rfl rfl)
theorem dX4_liesAt_199 : decode cX4_liesAt 199 = .ok (.ifCond .eq 12, 3) := dk_153 0 12 (dk_at dksX4_liesAt_8 12 rfl rfl)
theorem dX4_liesAt_202 : decode cX4_liesAt 202 = .ok (.iload 8, 2) := dk_21 8 (dk_at dksX4_liesAt_8 15 rfl rfl)
theorem dX4_liesAt_204 : decode cX4_liesAt 204 = .ok (.ifCond .ge 7, 3) := dk_156 0 7 (dk_at dksX4_liesAt_8 17 rfl rfl)
theorem dX4_liesAt_207 : decode cX4_liesAt 207 = .ok (.iconst 1, 1) := dk_4 (dk_at dksX4_liesAt_8 20 rfl rfl)
theorem dX4_liesAt_208 : decode cX4_liesAt 208 = .ok (.goto 4, 3) := dk_167 0 4 (dk_at dksX4_liesAt_8 21 rfl rfl)
theorem dX4_liesAt_211 : decode cX4_liesAt 211 = .ok (.iconst 0, 1) := dk_3 (dk_at dksX4_liesAt_9 0 rfl rfl)
theorem dX4_liesAt_212 : decode cX4_liesAt 212 = .ok (.ixor, 1) := dk_130 (dk_at dksX4_liesAt_9 1 rfl rfl)
theorem dX4_liesAt_213 : decode cX4_liesAt 213 = .ok (.istore 4, 2) := dk_54 4 (dk_at dksX4_liesAt_9 2 rfl rfl)
theorem dX4_liesAt_215 : decode cX4_liesAt 215 = .ok (.iinc 5 1, 3) := dk_132 5 1 (dk_at dksX4_liesAt_9 4 rfl rfl)
theorem dX4_liesAt_218 : decode cX4_liesAt 218 = .ok (.goto (-212), 3) := dk_167 255 44 (dk_at dksX4_liesAt_9 7 rfl rfl)
theorem dX4_liesAt_221 : decode cX4_liesAt 221 = .ok (.iload 4, 2) := dk_21 4 (dk_at dksX4_liesAt_9 10 rfl rfl)
theorem dX4_liesAt_223 : decode cX4_liesAt 223 = .ok (.ifCond .eq 7, 3) := dk_153 0 7 (dk_at dksX4_liesAt_9 12 rfl rfl)
theorem dX4_liesAt_226 : decode cX4_liesAt 226 = .ok (.iconst 1, 1) := dk_4 (dk_at dksX4_liesAt_9 15 rfl rfl)
theorem dX4_liesAt_227 : decode cX4_liesAt 227 = .ok (.goto 4, 3) := dk_167 0 4 (dk_at dksX4_liesAt_9 16 rfl rfl)
theorem dX4_liesAt_230 : decode cX4_liesAt 230 = .ok (.iconst (-1), 1) := dk_2 (dk_at dksX4_liesAt_9 19 rfl rfl)
theorem dX4_liesAt_231 : decode cX4_liesAt 231 = .ok (.ireturn, 1) := dk_172 (dk_at dksX4_liesAt_9 20 rfl rfl)
abbrev cX4_isBetween : ByteArray := prog_40_method_17_code
def yX4_isBetween : MethodName := ⟨RX4, "isBetween", "(III)Z"⟩
def dkwX4_isBetween_0 : List UInt8 := [27, 28, 29, 184, 0, 118, 161, 0, 16, 27, 28, 29, 184, 0, 120, 163, 0, 7, 4, 167, 0, 4, 3, 172]
abbrev dktX4_isBetween_0 : List UInt8 := dkwX4_isBetween_0 ++ []
theorem dksX4_isBetween_0 : cX4_isBetween.data.toList.drop 0 = dktX4_isBetween_0 := by decide +kernel
theorem dX4_isBetween_0 : decode cX4_isBetween 0 = .ok (.iload_n 1, 1) := dk_27 (dk_at dksX4_isBetween_0 0 rfl rfl)
theorem dX4_isBetween_1 : decode cX4_isBetween 1 = .ok (.iload_n 2, 1) := dk_28 (dk_at dksX4_isBetween_0 1 rfl rfl)
theorem dX4_isBetween_2 : decode cX4_isBetween 2 = .ok (.iload_n 3, 1) := dk_29 (dk_at dksX4_isBetween_0 2 rfl rfl)
theorem dX4_isBetween_3 : decode cX4_isBetween 3 = .ok (.invokestatic 118, 3) := dk_184 0 118 (dk_at dksX4_isBetween_0 3 rfl rfl)
theorem dX4_isBetween_6 : decode cX4_isBetween 6 = .ok (.if_icmp .lt 16, 3) := dk_161 0 16 (dk_at dksX4_isBetween_0 6 rfl rfl)
theorem dX4_isBetween_9 : decode cX4_isBetween 9 = .ok (.iload_n 1, 1) := dk_27 (dk_at dksX4_isBetween_0 9 rfl rfl)
theorem dX4_isBetween_10 : decode cX4_isBetween 10 = .ok (.iload_n 2, 1) := dk_28 (dk_at dksX4_isBetween_0 10 rfl rfl)
theorem dX4_isBetween_11 : decode cX4_isBetween 11 = .ok (.iload_n 3, 1) := dk_29 (dk_at dksX4_isBetween_0 11 rfl rfl)
theorem dX4_isBetween_12 : decode cX4_isBetween 12 = .ok (.invokestatic 120, 3) := dk_184 0 120 (dk_at dksX4_isBetween_0 12 rfl rfl)
theorem dX4_isBetween_15 : decode cX4_isBetween 15 = .ok (.if_icmp .gt 7, 3) := dk_163 0 7 (dk_at dksX4_isBetween_0 15 rfl rfl)
theorem dX4_isBetween_18 : decode cX4_isBetween 18 = .ok (.iconst 1, 1) := dk_4 (dk_at dksX4_isBetween_0 18 rfl rfl)
theorem dX4_isBetween_19 : decode cX4_isBetween 19 = .ok (.goto 4, 3) := dk_167 0 4 (dk_at dksX4_isBetween_0 19 rfl rfl)
theorem dX4_isBetween_22 : decode cX4_isBetween 22 = .ok (.iconst 0, 1) := dk_3 (dk_at dksX4_isBetween_0 22 rfl rfl)
theorem dX4_isBetween_23 : decode cX4_isBetween 23 = .ok (.ireturn, 1) := dk_172 (dk_at dksX4_isBetween_0 23 rfl rfl)
abbrev cX4_point : ByteArray := prog_40_method_84_code
def yX4_point : MethodName := ⟨RX4, "point", "(II)I"⟩
def dkwX4_point_1 : List UInt8 := [182, 1, 122, 172, 42, 42, 180, 0, 27, 182, 1, 144, 42, 27, 28, 182, 1, 156, 172]
abbrev dktX4_point_1 : List UInt8 := dkwX4_point_1 ++ []
def dkwX4_point_0 : List UInt8 := [42, 3, 181, 0, 50, 42, 27, 182, 1, 153, 153, 0, 12, 28, 3, 6, 184, 0, 69, 154, 0, 9, 42, 4]
abbrev dktX4_point_0 : List UInt8 := dkwX4_point_0 ++ dktX4_point_1
theorem dksX4_point_0 : cX4_point.data.toList.drop 0 = dktX4_point_0 := by decide +kernel
theorem dksX4_point_1 : cX4_point.data.toList.drop 24 = dktX4_point_1 := dk_seg dksX4_point_0 24 rfl rfl
theorem dX4_point_0 : decode cX4_point 0 = .ok (.aload_n 0, 1) := dk_42 (dk_at dksX4_point_0 0 rfl rfl)
theorem dX4_point_1 : decode cX4_point 1 = .ok (.iconst 0, 1) := dk_3 (dk_at dksX4_point_0 1 rfl rfl)
theorem dX4_point_2 : decode cX4_point 2 = .ok (.putfield 50, 3) := dk_181 0 50 (dk_at dksX4_point_0 2 rfl rfl)
theorem dX4_point_5 : decode cX4_point 5 = .ok (.aload_n 0, 1) := dk_42 (dk_at dksX4_point_0 5 rfl rfl)
theorem dX4_point_6 : decode cX4_point 6 = .ok (.iload_n 1, 1) := dk_27 (dk_at dksX4_point_0 6 rfl rfl)
theorem dX4_point_7 : decode cX4_point 7 = .ok (.invokevirtual 409, 3) := dk_182 1 153 (dk_at dksX4_point_0 7 rfl rfl)
theorem dX4_point_10 : decode cX4_point 10 = .ok (.ifCond .eq 12, 3) := dk_153 0 12 (dk_at dksX4_point_0 10 rfl rfl)
theorem dX4_point_13 : decode cX4_point 13 = .ok (.iload_n 2, 1) := dk_28 (dk_at dksX4_point_0 13 rfl rfl)
theorem dX4_point_14 : decode cX4_point 14 = .ok (.iconst 0, 1) := dk_3 (dk_at dksX4_point_0 14 rfl rfl)
theorem dX4_point_15 : decode cX4_point 15 = .ok (.iconst 3, 1) := dk_6 (dk_at dksX4_point_0 15 rfl rfl)
theorem dX4_point_16 : decode cX4_point 16 = .ok (.invokestatic 69, 3) := dk_184 0 69 (dk_at dksX4_point_0 16 rfl rfl)
theorem dX4_point_19 : decode cX4_point 19 = .ok (.ifCond .ne 9, 3) := dk_154 0 9 (dk_at dksX4_point_0 19 rfl rfl)
theorem dX4_point_22 : decode cX4_point 22 = .ok (.aload_n 0, 1) := dk_42 (dk_at dksX4_point_0 22 rfl rfl)
theorem dX4_point_23 : decode cX4_point 23 = .ok (.iconst 1, 1) := dk_4 (dk_at dksX4_point_0 23 rfl rfl)
theorem dX4_point_24 : decode cX4_point 24 = .ok (.invokevirtual 378, 3) := dk_182 1 122 (dk_at dksX4_point_1 0 rfl rfl)
theorem dX4_point_27 : decode cX4_point 27 = .ok (.ireturn, 1) := dk_172 (dk_at dksX4_point_1 3 rfl rfl)
theorem dX4_point_28 : decode cX4_point 28 = .ok (.aload_n 0, 1) := dk_42 (dk_at dksX4_point_1 4 rfl rfl)
theorem dX4_point_29 : decode cX4_point 29 = .ok (.aload_n 0, 1) := dk_42 (dk_at dksX4_point_1 5 rfl rfl)
theorem dX4_point_30 : decode cX4_point 30 = .ok (.getfield 27, 3) := dk_180 0 27 (dk_at dksX4_point_1 6 rfl rfl)
theorem dX4_point_33 : decode cX4_point 33 = .ok (.invokevirtual 400, 3) := dk_182 1 144 (dk_at dksX4_point_1 9 rfl rfl)
theorem dX4_point_36 : decode cX4_point 36 = .ok (.aload_n 0, 1) := dk_42 (dk_at dksX4_point_1 12 rfl rfl)
theorem dX4_point_37 : decode cX4_point 37 = .ok (.iload_n 1, 1) := dk_27 (dk_at dksX4_point_1 13 rfl rfl)
theorem dX4_point_38 : decode cX4_point 38 = .ok (.iload_n 2, 1) := dk_28 (dk_at dksX4_point_1 14 rfl rfl)
theorem dX4_point_39 : decode cX4_point 39 = .ok (.invokevirtual 412, 3) := dk_182 1 156 (dk_at dksX4_point_1 15 rfl rfl)
theorem dX4_point_42 : decode cX4_point 42 = .ok (.ireturn, 1) := dk_172 (dk_at dksX4_point_1 18 rfl rfl)
abbrev cX4_isPoint : ByteArray := prog_40_method_6_code
def yX4_isPoint : MethodName := ⟨RX4, "isPoint", "(I)Z"⟩
def dkwX4_isPoint_0 : List UInt8 := [27, 3, 42, 180, 0, 20, 180, 0, 66, 4, 100, 184, 0, 69, 172]
abbrev dktX4_isPoint_0 : List UInt8 := dkwX4_isPoint_0 ++ []
theorem dksX4_isPoint_0 : cX4_isPoint.data.toList.drop 0 = dktX4_isPoint_0 := by decide +kernel
theorem dX4_isPoint_0 : decode cX4_isPoint 0 = .ok (.iload_n 1, 1) := dk_27 (dk_at dksX4_isPoint_0 0 rfl rfl)
theorem dX4_isPoint_1 : decode cX4_isPoint 1 = .ok (.iconst 0, 1) := dk_3 (dk_at dksX4_isPoint_0 1 rfl rfl)
theorem dX4_isPoint_2 : decode cX4_isPoint 2 = .ok (.aload_n 0, 1) := dk_42 (dk_at dksX4_isPoint_0 2 rfl rfl)
theorem dX4_isPoint_3 : decode cX4_isPoint 3 = .ok (.getfield 20, 3) := dk_180 0 20 (dk_at dksX4_isPoint_0 3 rfl rfl)
theorem dX4_isPoint_6 : decode cX4_isPoint 6 = .ok (.getfield 66, 3) := dk_180 0 66 (dk_at dksX4_isPoint_0 6 rfl rfl)
theorem dX4_isPoint_9 : decode cX4_isPoint 9 = .ok (.iconst 1, 1) := dk_4 (dk_at dksX4_isPoint_0 9 rfl rfl)
theorem dX4_isPoint_10 : decode cX4_isPoint 10 = .ok (.isub, 1) := dk_100 (dk_at dksX4_isPoint_0 10 rfl rfl)
theorem dX4_isPoint_11 : decode cX4_isPoint 11 = .ok (.invokestatic 69, 3) := dk_184 0 69 (dk_at dksX4_isPoint_0 11 rfl rfl)
theorem dX4_isPoint_14 : decode cX4_isPoint 14 = .ok (.ireturn, 1) := dk_172 (dk_at dksX4_isPoint_0 14 rfl rfl)
abbrev cX4_pointTold : ByteArray := prog_40_method_83_code
def yX4_pointTold : MethodName := ⟨RX4, "pointTold", "(II)I"⟩
def dkwX4_pointTold_2 : List UInt8 := [42, 27, 182, 1, 132, 172]
abbrev dktX4_pointTold_2 : List UInt8 := dkwX4_pointTold_2 ++ []
def dkwX4_pointTold_1 : List UInt8 := [180, 0, 44, 180, 0, 88, 27, 46, 167, 0, 21, 28, 5, 160, 0, 11, 42, 27, 182, 1, 150, 167, 0, 8]
abbrev dktX4_pointTold_1 : List UInt8 := dkwX4_pointTold_1 ++ dktX4_pointTold_2
def dkwX4_pointTold_0 : List UInt8 := [28, 154, 0, 15, 42, 180, 0, 44, 180, 0, 85, 27, 46, 167, 0, 38, 28, 4, 160, 0, 15, 42]
abbrev dktX4_pointTold_0 : List UInt8 := dkwX4_pointTold_0 ++ dktX4_pointTold_1
theorem dksX4_pointTold_0 : cX4_pointTold.data.toList.drop 0 = dktX4_pointTold_0 := by decide +kernel
theorem dksX4_pointTold_1 : cX4_pointTold.data.toList.drop 22 = dktX4_pointTold_1 := dk_seg dksX4_pointTold_0 22 rfl rfl
theorem dksX4_pointTold_2 : cX4_pointTold.data.toList.drop 46 = dktX4_pointTold_2 := dk_seg dksX4_pointTold_1 24 rfl rfl
theorem dX4_pointTold_0 : decode cX4_pointTold 0 = .ok (.iload_n 2, 1) := dk_28 (dk_at dksX4_pointTold_0 0 rfl rfl)
theorem dX4_pointTold_1 : decode cX4_pointTold 1 = .ok (.ifCond .ne 15, 3) := dk_154 0 15 (dk_at dksX4_pointTold_0 1 rfl rfl)
theorem dX4_pointTold_4 : decode cX4_pointTold 4 = .ok (.aload_n 0, 1) := dk_42 (dk_at dksX4_pointTold_0 4 rfl rfl)
theorem dX4_pointTold_5 : decode cX4_pointTold 5 = .ok (.getfield 44, 3) := dk_180 0 44 (dk_at dksX4_pointTold_0 5 rfl rfl)
theorem dX4_pointTold_8 : decode cX4_pointTold 8 = .ok (.getfield 85, 3) := dk_180 0 85 (dk_at dksX4_pointTold_0 8 rfl rfl)
theorem dX4_pointTold_11 : decode cX4_pointTold 11 = .ok (.iload_n 1, 1) := dk_27 (dk_at dksX4_pointTold_0 11 rfl rfl)
theorem dX4_pointTold_12 : decode cX4_pointTold 12 = .ok (.iaload, 1) := dk_46 (dk_at dksX4_pointTold_0 12 rfl rfl)
theorem dX4_pointTold_13 : decode cX4_pointTold 13 = .ok (.goto 38, 3) := dk_167 0 38 (dk_at dksX4_pointTold_0 13 rfl rfl)
theorem dX4_pointTold_16 : decode cX4_pointTold 16 = .ok (.iload_n 2, 1) := dk_28 (dk_at dksX4_pointTold_0 16 rfl rfl)
theorem dX4_pointTold_17 : decode cX4_pointTold 17 = .ok (.iconst 1, 1) := dk_4 (dk_at dksX4_pointTold_0 17 rfl rfl)
theorem dX4_pointTold_18 : decode cX4_pointTold 18 = .ok (.if_icmp .ne 15, 3) := dk_160 0 15 (dk_at dksX4_pointTold_0 18 rfl rfl)
theorem dX4_pointTold_21 : decode cX4_pointTold 21 = .ok (.aload_n 0, 1) := dk_42 (dk_at dksX4_pointTold_0 21 rfl rfl)
theorem dX4_pointTold_22 : decode cX4_pointTold 22 = .ok (.getfield 44, 3) := dk_180 0 44 (dk_at dksX4_pointTold_1 0 rfl rfl)
theorem dX4_pointTold_25 : decode cX4_pointTold 25 = .ok (.getfield 88, 3) := dk_180 0 88 (dk_at dksX4_pointTold_1 3 rfl rfl)
theorem dX4_pointTold_28 : decode cX4_pointTold 28 = .ok (.iload_n 1, 1) := dk_27 (dk_at dksX4_pointTold_1 6 rfl rfl)
theorem dX4_pointTold_29 : decode cX4_pointTold 29 = .ok (.iaload, 1) := dk_46 (dk_at dksX4_pointTold_1 7 rfl rfl)
theorem dX4_pointTold_30 : decode cX4_pointTold 30 = .ok (.goto 21, 3) := dk_167 0 21 (dk_at dksX4_pointTold_1 8 rfl rfl)
theorem dX4_pointTold_33 : decode cX4_pointTold 33 = .ok (.iload_n 2, 1) := dk_28 (dk_at dksX4_pointTold_1 11 rfl rfl)
theorem dX4_pointTold_34 : decode cX4_pointTold 34 = .ok (.iconst 2, 1) := dk_5 (dk_at dksX4_pointTold_1 12 rfl rfl)
theorem dX4_pointTold_35 : decode cX4_pointTold 35 = .ok (.if_icmp .ne 11, 3) := dk_160 0 11 (dk_at dksX4_pointTold_1 13 rfl rfl)
theorem dX4_pointTold_38 : decode cX4_pointTold 38 = .ok (.aload_n 0, 1) := dk_42 (dk_at dksX4_pointTold_1 16 rfl rfl)
theorem dX4_pointTold_39 : decode cX4_pointTold 39 = .ok (.iload_n 1, 1) := dk_27 (dk_at dksX4_pointTold_1 17 rfl rfl)
theorem dX4_pointTold_40 : decode cX4_pointTold 40 = .ok (.invokevirtual 406, 3) := dk_182 1 150 (dk_at dksX4_pointTold_1 18 rfl rfl)
theorem dX4_pointTold_43 : decode cX4_pointTold 43 = .ok (.goto 8, 3) := dk_167 0 8 (dk_at dksX4_pointTold_1 21 rfl rfl)
theorem dX4_pointTold_46 : decode cX4_pointTold 46 = .ok (.aload_n 0, 1) := dk_42 (dk_at dksX4_pointTold_2 0 rfl rfl)
theorem dX4_pointTold_47 : decode cX4_pointTold 47 = .ok (.iload_n 1, 1) := dk_27 (dk_at dksX4_pointTold_2 1 rfl rfl)
theorem dX4_pointTold_48 : decode cX4_pointTold 48 = .ok (.invokevirtual 388, 3) := dk_182 1 132 (dk_at dksX4_pointTold_2 2 rfl rfl)
theorem dX4_pointTold_51 : decode cX4_pointTold 51 = .ok (.ireturn, 1) := dk_172 (dk_at dksX4_pointTold_2 5 rfl rfl)
abbrev cX4_cornersAt : ByteArray := prog_40_method_82_code
def yX4_cornersAt : MethodName := ⟨RX4, "cornersAt", "(I)I"⟩
def dkwX4_cornersAt_2 : List UInt8 := [3, 96, 61, 132, 4, 1, 167, 255, 220, 132, 3, 1, 167, 255, 200, 28, 172]
abbrev dktX4_cornersAt_2 : List UInt8 := dkwX4_cornersAt_2 ++ []
def dkwX4_cornersAt_1 : List UInt8 := [180, 0, 82, 29, 46, 162, 0, 28, 28, 42, 29, 21, 4, 182, 0, 95, 27, 160, 0, 7, 4, 167, 0, 4]
abbrev dktX4_cornersAt_1 : List UInt8 := dkwX4_cornersAt_1 ++ dktX4_cornersAt_2
def dkwX4_cornersAt_0 : List UInt8 := [3, 61, 3, 62, 29, 42, 180, 0, 20, 180, 0, 73, 162, 0, 51, 3, 54, 4, 21, 4, 42, 180, 0, 20]
abbrev dktX4_cornersAt_0 : List UInt8 := dkwX4_cornersAt_0 ++ dktX4_cornersAt_1
theorem dksX4_cornersAt_0 : cX4_cornersAt.data.toList.drop 0 = dktX4_cornersAt_0 := by decide +kernel
theorem dksX4_cornersAt_1 : cX4_cornersAt.data.toList.drop 24 = dktX4_cornersAt_1 := dk_seg dksX4_cornersAt_0 24 rfl rfl
theorem dksX4_cornersAt_2 : cX4_cornersAt.data.toList.drop 48 = dktX4_cornersAt_2 := dk_seg dksX4_cornersAt_1 24 rfl rfl
theorem dX4_cornersAt_0 : decode cX4_cornersAt 0 = .ok (.iconst 0, 1) := dk_3 (dk_at dksX4_cornersAt_0 0 rfl rfl)
theorem dX4_cornersAt_1 : decode cX4_cornersAt 1 = .ok (.istore_n 2, 1) := dk_61 (dk_at dksX4_cornersAt_0 1 rfl rfl)
theorem dX4_cornersAt_2 : decode cX4_cornersAt 2 = .ok (.iconst 0, 1) := dk_3 (dk_at dksX4_cornersAt_0 2 rfl rfl)
theorem dX4_cornersAt_3 : decode cX4_cornersAt 3 = .ok (.istore_n 3, 1) := dk_62 (dk_at dksX4_cornersAt_0 3 rfl rfl)
theorem dX4_cornersAt_4 : decode cX4_cornersAt 4 = .ok (.iload_n 3, 1) := dk_29 (dk_at dksX4_cornersAt_0 4 rfl rfl)
theorem dX4_cornersAt_5 : decode cX4_cornersAt 5 = .ok (.aload_n 0, 1) := dk_42 (dk_at dksX4_cornersAt_0 5 rfl rfl)
theorem dX4_cornersAt_6 : decode cX4_cornersAt 6 = .ok (.getfield 20, 3) := dk_180 0 20 (dk_at dksX4_cornersAt_0 6 rfl rfl)
theorem dX4_cornersAt_9 : decode cX4_cornersAt 9 = .ok (.getfield 73, 3) := dk_180 0 73 (dk_at dksX4_cornersAt_0 9 rfl rfl)
theorem dX4_cornersAt_12 : decode cX4_cornersAt 12 = .ok (.if_icmp .ge 51, 3) := dk_162 0 51 (dk_at dksX4_cornersAt_0 12 rfl rfl)
theorem dX4_cornersAt_15 : decode cX4_cornersAt 15 = .ok (.iconst 0, 1) := dk_3 (dk_at dksX4_cornersAt_0 15 rfl rfl)
theorem dX4_cornersAt_16 : decode cX4_cornersAt 16 = .ok (.istore 4, 2) := dk_54 4 (dk_at dksX4_cornersAt_0 16 rfl rfl)
theorem dX4_cornersAt_18 : decode cX4_cornersAt 18 = .ok (.iload 4, 2) := dk_21 4 (dk_at dksX4_cornersAt_0 18 rfl rfl)
theorem dX4_cornersAt_20 : decode cX4_cornersAt 20 = .ok (.aload_n 0, 1) := dk_42 (dk_at dksX4_cornersAt_0 20 rfl rfl)
theorem dX4_cornersAt_21 : decode cX4_cornersAt 21 = .ok (.getfield 20, 3) := dk_180 0 20 (dk_at dksX4_cornersAt_0 21 rfl rfl)
theorem dX4_cornersAt_24 : decode cX4_cornersAt 24 = .ok (.getfield 82, 3) := dk_180 0 82 (dk_at dksX4_cornersAt_1 0 rfl rfl)
theorem dX4_cornersAt_27 : decode cX4_cornersAt 27 = .ok (.iload_n 3, 1) := dk_29 (dk_at dksX4_cornersAt_1 3 rfl rfl)
theorem dX4_cornersAt_28 : decode cX4_cornersAt 28 = .ok (.iaload, 1) := dk_46 (dk_at dksX4_cornersAt_1 4 rfl rfl)
theorem dX4_cornersAt_29 : decode cX4_cornersAt 29 = .ok (.if_icmp .ge 28, 3) := dk_162 0 28 (dk_at dksX4_cornersAt_1 5 rfl rfl)
theorem dX4_cornersAt_32 : decode cX4_cornersAt 32 = .ok (.iload_n 2, 1) := dk_28 (dk_at dksX4_cornersAt_1 8 rfl rfl)
theorem dX4_cornersAt_33 : decode cX4_cornersAt 33 = .ok (.aload_n 0, 1) := dk_42 (dk_at dksX4_cornersAt_1 9 rfl rfl)
theorem dX4_cornersAt_34 : decode cX4_cornersAt 34 = .ok (.iload_n 3, 1) := dk_29 (dk_at dksX4_cornersAt_1 10 rfl rfl)
theorem dX4_cornersAt_35 : decode cX4_cornersAt 35 = .ok (.iload 4, 2) := dk_21 4 (dk_at dksX4_cornersAt_1 11 rfl rfl)
theorem dX4_cornersAt_37 : decode cX4_cornersAt 37 = .ok (.invokevirtual 95, 3) := dk_182 0 95 (dk_at dksX4_cornersAt_1 13 rfl rfl)
theorem dX4_cornersAt_40 : decode cX4_cornersAt 40 = .ok (.iload_n 1, 1) := dk_27 (dk_at dksX4_cornersAt_1 16 rfl rfl)
theorem dX4_cornersAt_41 : decode cX4_cornersAt 41 = .ok (.if_icmp .ne 7, 3) := dk_160 0 7 (dk_at dksX4_cornersAt_1 17 rfl rfl)
theorem dX4_cornersAt_44 : decode cX4_cornersAt 44 = .ok (.iconst 1, 1) := dk_4 (dk_at dksX4_cornersAt_1 20 rfl rfl)
theorem dX4_cornersAt_45 : decode cX4_cornersAt 45 = .ok (.goto 4, 3) := dk_167 0 4 (dk_at dksX4_cornersAt_1 21 rfl rfl)
theorem dX4_cornersAt_48 : decode cX4_cornersAt 48 = .ok (.iconst 0, 1) := dk_3 (dk_at dksX4_cornersAt_2 0 rfl rfl)
theorem dX4_cornersAt_49 : decode cX4_cornersAt 49 = .ok (.iadd, 1) := dk_96 (dk_at dksX4_cornersAt_2 1 rfl rfl)
theorem dX4_cornersAt_50 : decode cX4_cornersAt 50 = .ok (.istore_n 2, 1) := dk_61 (dk_at dksX4_cornersAt_2 2 rfl rfl)
theorem dX4_cornersAt_51 : decode cX4_cornersAt 51 = .ok (.iinc 4 1, 3) := dk_132 4 1 (dk_at dksX4_cornersAt_2 3 rfl rfl)
theorem dX4_cornersAt_54 : decode cX4_cornersAt 54 = .ok (.goto (-36), 3) := dk_167 255 220 (dk_at dksX4_cornersAt_2 6 rfl rfl)
theorem dX4_cornersAt_57 : decode cX4_cornersAt 57 = .ok (.iinc 3 1, 3) := dk_132 3 1 (dk_at dksX4_cornersAt_2 9 rfl rfl)
theorem dX4_cornersAt_60 : decode cX4_cornersAt 60 = .ok (.goto (-56), 3) := dk_167 255 200 (dk_at dksX4_cornersAt_2 12 rfl rfl)
theorem dX4_cornersAt_63 : decode cX4_cornersAt 63 = .ok (.iload_n 2, 1) := dk_28 (dk_at dksX4_cornersAt_2 15 rfl rfl)
theorem dX4_cornersAt_64 : decode cX4_cornersAt 64 = .ok (.ireturn, 1) := dk_172 (dk_at dksX4_cornersAt_2 16 rfl rfl)
abbrev cX4_shape : ByteArray := prog_40_method_89_code
def yX4_shape : MethodName := ⟨RX4, "shape", "(II)I"⟩
def dkwX4_shape_1 : List UInt8 := [182, 1, 122, 172, 42, 42, 180, 0, 27, 182, 1, 144, 42, 27, 28, 182, 1, 176, 172]
abbrev dktX4_shape_1 : List UInt8 := dkwX4_shape_1 ++ []
def dkwX4_shape_0 : List UInt8 := [42, 3, 181, 0, 50, 42, 27, 182, 1, 173, 153, 0, 12, 28, 3, 8, 184, 0, 69, 154, 0, 9, 42, 4]
abbrev dktX4_shape_0 : List UInt8 := dkwX4_shape_0 ++ dktX4_shape_1
theorem dksX4_shape_0 : cX4_shape.data.toList.drop 0 = dktX4_shape_0 := by decide +kernel
theorem dksX4_shape_1 : cX4_shape.data.toList.drop 24 = dktX4_shape_1 := dk_seg dksX4_shape_0 24 rfl rfl
theorem dX4_shape_0 : decode cX4_shape 0 = .ok (.aload_n 0, 1) := dk_42 (dk_at dksX4_shape_0 0 rfl rfl)
theorem dX4_shape_1 : decode cX4_shape 1 = .ok (.iconst 0, 1) := dk_3 (dk_at dksX4_shape_0 1 rfl rfl)
theorem dX4_shape_2 : decode cX4_shape 2 = .ok (.putfield 50, 3) := dk_181 0 50 (dk_at dksX4_shape_0 2 rfl rfl)
theorem dX4_shape_5 : decode cX4_shape 5 = .ok (.aload_n 0, 1) := dk_42 (dk_at dksX4_shape_0 5 rfl rfl)
theorem dX4_shape_6 : decode cX4_shape 6 = .ok (.iload_n 1, 1) := dk_27 (dk_at dksX4_shape_0 6 rfl rfl)
theorem dX4_shape_7 : decode cX4_shape 7 = .ok (.invokevirtual 429, 3) := dk_182 1 173 (dk_at dksX4_shape_0 7 rfl rfl)
theorem dX4_shape_10 : decode cX4_shape 10 = .ok (.ifCond .eq 12, 3) := dk_153 0 12 (dk_at dksX4_shape_0 10 rfl rfl)
theorem dX4_shape_13 : decode cX4_shape 13 = .ok (.iload_n 2, 1) := dk_28 (dk_at dksX4_shape_0 13 rfl rfl)
theorem dX4_shape_14 : decode cX4_shape 14 = .ok (.iconst 0, 1) := dk_3 (dk_at dksX4_shape_0 14 rfl rfl)
theorem dX4_shape_15 : decode cX4_shape 15 = .ok (.iconst 5, 1) := dk_8 (dk_at dksX4_shape_0 15 rfl rfl)
theorem dX4_shape_16 : decode cX4_shape 16 = .ok (.invokestatic 69, 3) := dk_184 0 69 (dk_at dksX4_shape_0 16 rfl rfl)
theorem dX4_shape_19 : decode cX4_shape 19 = .ok (.ifCond .ne 9, 3) := dk_154 0 9 (dk_at dksX4_shape_0 19 rfl rfl)
theorem dX4_shape_22 : decode cX4_shape 22 = .ok (.aload_n 0, 1) := dk_42 (dk_at dksX4_shape_0 22 rfl rfl)
theorem dX4_shape_23 : decode cX4_shape 23 = .ok (.iconst 1, 1) := dk_4 (dk_at dksX4_shape_0 23 rfl rfl)
theorem dX4_shape_24 : decode cX4_shape 24 = .ok (.invokevirtual 378, 3) := dk_182 1 122 (dk_at dksX4_shape_1 0 rfl rfl)
theorem dX4_shape_27 : decode cX4_shape 27 = .ok (.ireturn, 1) := dk_172 (dk_at dksX4_shape_1 3 rfl rfl)
theorem dX4_shape_28 : decode cX4_shape 28 = .ok (.aload_n 0, 1) := dk_42 (dk_at dksX4_shape_1 4 rfl rfl)
theorem dX4_shape_29 : decode cX4_shape 29 = .ok (.aload_n 0, 1) := dk_42 (dk_at dksX4_shape_1 5 rfl rfl)
theorem dX4_shape_30 : decode cX4_shape 30 = .ok (.getfield 27, 3) := dk_180 0 27 (dk_at dksX4_shape_1 6 rfl rfl)
theorem dX4_shape_33 : decode cX4_shape 33 = .ok (.invokevirtual 400, 3) := dk_182 1 144 (dk_at dksX4_shape_1 9 rfl rfl)
theorem dX4_shape_36 : decode cX4_shape 36 = .ok (.aload_n 0, 1) := dk_42 (dk_at dksX4_shape_1 12 rfl rfl)
theorem dX4_shape_37 : decode cX4_shape 37 = .ok (.iload_n 1, 1) := dk_27 (dk_at dksX4_shape_1 13 rfl rfl)
theorem dX4_shape_38 : decode cX4_shape 38 = .ok (.iload_n 2, 1) := dk_28 (dk_at dksX4_shape_1 14 rfl rfl)
theorem dX4_shape_39 : decode cX4_shape 39 = .ok (.invokevirtual 432, 3) := dk_182 1 176 (dk_at dksX4_shape_1 15 rfl rfl)
theorem dX4_shape_42 : decode cX4_shape 42 = .ok (.ireturn, 1) := dk_172 (dk_at dksX4_shape_1 18 rfl rfl)
abbrev cX4_isShape : ByteArray := prog_40_method_7_code
def yX4_isShape : MethodName := ⟨RX4, "isShape", "(I)Z"⟩
def dkwX4_isShape_0 : List UInt8 := [27, 3, 42, 180, 0, 20, 180, 0, 73, 4, 100, 184, 0, 69, 172]
abbrev dktX4_isShape_0 : List UInt8 := dkwX4_isShape_0 ++ []
theorem dksX4_isShape_0 : cX4_isShape.data.toList.drop 0 = dktX4_isShape_0 := by decide +kernel
theorem dX4_isShape_0 : decode cX4_isShape 0 = .ok (.iload_n 1, 1) := dk_27 (dk_at dksX4_isShape_0 0 rfl rfl)
theorem dX4_isShape_1 : decode cX4_isShape 1 = .ok (.iconst 0, 1) := dk_3 (dk_at dksX4_isShape_0 1 rfl rfl)
theorem dX4_isShape_2 : decode cX4_isShape 2 = .ok (.aload_n 0, 1) := dk_42 (dk_at dksX4_isShape_0 2 rfl rfl)
theorem dX4_isShape_3 : decode cX4_isShape 3 = .ok (.getfield 20, 3) := dk_180 0 20 (dk_at dksX4_isShape_0 3 rfl rfl)
theorem dX4_isShape_6 : decode cX4_isShape 6 = .ok (.getfield 73, 3) := dk_180 0 73 (dk_at dksX4_isShape_0 6 rfl rfl)
theorem dX4_isShape_9 : decode cX4_isShape 9 = .ok (.iconst 1, 1) := dk_4 (dk_at dksX4_isShape_0 9 rfl rfl)
theorem dX4_isShape_10 : decode cX4_isShape 10 = .ok (.isub, 1) := dk_100 (dk_at dksX4_isShape_0 10 rfl rfl)
theorem dX4_isShape_11 : decode cX4_isShape 11 = .ok (.invokestatic 69, 3) := dk_184 0 69 (dk_at dksX4_isShape_0 11 rfl rfl)
theorem dX4_isShape_14 : decode cX4_isShape 14 = .ok (.ireturn, 1) := dk_172 (dk_at dksX4_isShape_0 14 rfl rfl)
abbrev cX4_shapeTold : ByteArray := prog_40_method_88_code
def yX4_shapeTold : MethodName := ⟨RX4, "shapeTold", "(II)I"⟩
def dkwX4_shapeTold_3 : List UInt8 := [172, 42, 27, 27, 182, 0, 170, 172, 42, 27, 182, 1, 167, 172, 42, 27, 182, 1, 170, 172]
abbrev dktX4_shapeTold_3 : List UInt8 := dkwX4_shapeTold_3 ++ []
def dkwX4_shapeTold_2 : List UInt8 := [42, 180, 0, 20, 180, 0, 82, 27, 46, 172, 42, 27, 182, 0, 167, 172, 42, 27, 182, 0, 99, 184, 1, 162]
abbrev dktX4_shapeTold_2 : List UInt8 := dkwX4_shapeTold_2 ++ dktX4_shapeTold_3
def dkwX4_shapeTold_1 : List UInt8 := [170, 0, 0, 0, 0, 0, 73, 0, 0, 0, 0, 0, 0, 0, 4, 0, 0, 0, 35, 0, 0, 0, 45, 0, 0, 0, 51, 0, 0, 0, 60, 0, 0, 0, 67]
abbrev dktX4_shapeTold_1 : List UInt8 := dkwX4_shapeTold_1 ++ dktX4_shapeTold_2
def dkwX4_shapeTold_0 : List UInt8 := [28]
abbrev dktX4_shapeTold_0 : List UInt8 := dkwX4_shapeTold_0 ++ dktX4_shapeTold_1
theorem dksX4_shapeTold_0 : cX4_shapeTold.data.toList.drop 0 = dktX4_shapeTold_0 := by decide +kernel
theorem dksX4_shapeTold_1 : cX4_shapeTold.data.toList.drop 1 = dktX4_shapeTold_1 := dk_seg dksX4_shapeTold_0 1 rfl rfl
theorem dksX4_shapeTold_2 : cX4_shapeTold.data.toList.drop 36 = dktX4_shapeTold_2 := dk_seg dksX4_shapeTold_1 35 rfl rfl
theorem dksX4_shapeTold_3 : cX4_shapeTold.data.toList.drop 60 = dktX4_shapeTold_3 := dk_seg dksX4_shapeTold_2 24 rfl rfl
theorem dX4_shapeTold_0 : decode cX4_shapeTold 0 = .ok (.iload_n 2, 1) := dk_28 (dk_at dksX4_shapeTold_0 0 rfl rfl)
theorem dX4_shapeTold_1 : decode cX4_shapeTold 1 = .ok (.tableswitch 73 0 4 #[35, 45, 51, 60, 67], 35) := by decide +kernel
theorem dX4_shapeTold_36 : decode cX4_shapeTold 36 = .ok (.aload_n 0, 1) := dk_42 (dk_at dksX4_shapeTold_2 0 rfl rfl)
theorem dX4_shapeTold_37 : decode cX4_shapeTold 37 = .ok (.getfield 20, 3) := dk_180 0 20 (dk_at dksX4_shapeTold_2 1 rfl rfl)
theorem dX4_shapeTold_40 : decode cX4_shapeTold 40 = .ok (.getfield 82, 3) := dk_180 0 82 (dk_at dksX4_shapeTold_2 4 rfl rfl)
theorem dX4_shapeTold_43 : decode cX4_shapeTold 43 = .ok (.iload_n 1, 1) := dk_27 (dk_at dksX4_shapeTold_2 7 rfl rfl)
theorem dX4_shapeTold_44 : decode cX4_shapeTold 44 = .ok (.iaload, 1) := dk_46 (dk_at dksX4_shapeTold_2 8 rfl rfl)
theorem dX4_shapeTold_45 : decode cX4_shapeTold 45 = .ok (.ireturn, 1) := dk_172 (dk_at dksX4_shapeTold_2 9 rfl rfl)
theorem dX4_shapeTold_46 : decode cX4_shapeTold 46 = .ok (.aload_n 0, 1) := dk_42 (dk_at dksX4_shapeTold_2 10 rfl rfl)
theorem dX4_shapeTold_47 : decode cX4_shapeTold 47 = .ok (.iload_n 1, 1) := dk_27 (dk_at dksX4_shapeTold_2 11 rfl rfl)
theorem dX4_shapeTold_48 : decode cX4_shapeTold 48 = .ok (.invokevirtual 167, 3) := dk_182 0 167 (dk_at dksX4_shapeTold_2 12 rfl rfl)
theorem dX4_shapeTold_51 : decode cX4_shapeTold 51 = .ok (.ireturn, 1) := dk_172 (dk_at dksX4_shapeTold_2 15 rfl rfl)
theorem dX4_shapeTold_52 : decode cX4_shapeTold 52 = .ok (.aload_n 0, 1) := dk_42 (dk_at dksX4_shapeTold_2 16 rfl rfl)
theorem dX4_shapeTold_53 : decode cX4_shapeTold 53 = .ok (.iload_n 1, 1) := dk_27 (dk_at dksX4_shapeTold_2 17 rfl rfl)
theorem dX4_shapeTold_54 : decode cX4_shapeTold 54 = .ok (.invokevirtual 99, 3) := dk_182 0 99 (dk_at dksX4_shapeTold_2 18 rfl rfl)
theorem dX4_shapeTold_57 : decode cX4_shapeTold 57 = .ok (.invokestatic 418, 3) := dk_184 1 162 (dk_at dksX4_shapeTold_2 21 rfl rfl)
theorem dX4_shapeTold_60 : decode cX4_shapeTold 60 = .ok (.ireturn, 1) := dk_172 (dk_at dksX4_shapeTold_3 0 rfl rfl)
theorem dX4_shapeTold_61 : decode cX4_shapeTold 61 = .ok (.aload_n 0, 1) := dk_42 (dk_at dksX4_shapeTold_3 1 rfl rfl)
theorem dX4_shapeTold_62 : decode cX4_shapeTold 62 = .ok (.iload_n 1, 1) := dk_27 (dk_at dksX4_shapeTold_3 2 rfl rfl)
theorem dX4_shapeTold_63 : decode cX4_shapeTold 63 = .ok (.iload_n 1, 1) := dk_27 (dk_at dksX4_shapeTold_3 3 rfl rfl)
theorem dX4_shapeTold_64 : decode cX4_shapeTold 64 = .ok (.invokevirtual 170, 3) := dk_182 0 170 (dk_at dksX4_shapeTold_3 4 rfl rfl)
theorem dX4_shapeTold_67 : decode cX4_shapeTold 67 = .ok (.ireturn, 1) := dk_172 (dk_at dksX4_shapeTold_3 7 rfl rfl)
theorem dX4_shapeTold_68 : decode cX4_shapeTold 68 = .ok (.aload_n 0, 1) := dk_42 (dk_at dksX4_shapeTold_3 8 rfl rfl)
theorem dX4_shapeTold_69 : decode cX4_shapeTold 69 = .ok (.iload_n 1, 1) := dk_27 (dk_at dksX4_shapeTold_3 9 rfl rfl)
theorem dX4_shapeTold_70 : decode cX4_shapeTold 70 = .ok (.invokevirtual 423, 3) := dk_182 1 167 (dk_at dksX4_shapeTold_3 10 rfl rfl)
theorem dX4_shapeTold_73 : decode cX4_shapeTold 73 = .ok (.ireturn, 1) := dk_172 (dk_at dksX4_shapeTold_3 13 rfl rfl)
theorem dX4_shapeTold_74 : decode cX4_shapeTold 74 = .ok (.aload_n 0, 1) := dk_42 (dk_at dksX4_shapeTold_3 14 rfl rfl)
theorem dX4_shapeTold_75 : decode cX4_shapeTold 75 = .ok (.iload_n 1, 1) := dk_27 (dk_at dksX4_shapeTold_3 15 rfl rfl)
theorem dX4_shapeTold_76 : decode cX4_shapeTold 76 = .ok (.invokevirtual 426, 3) := dk_182 1 170 (dk_at dksX4_shapeTold_3 16 rfl rfl)
theorem dX4_shapeTold_79 : decode cX4_shapeTold 79 = .ok (.ireturn, 1) := dk_172 (dk_at dksX4_shapeTold_3 19 rfl rfl)
abbrev cX4_gridPoints : ByteArray := prog_40_method_86_code
def yX4_gridPoints : MethodName := ⟨RX4, "gridPoints", "(I)I"⟩
def dkwX4_gridPoints_4 : List UInt8 := [28, 172]
abbrev dktX4_gridPoints_4 : List UInt8 := dkwX4_gridPoints_4 ++ []
def dkwX4_gridPoints_3 : List UInt8 := [180, 0, 44, 180, 0, 88, 21, 5, 46, 100, 184, 0, 103, 184, 1, 159, 96, 61, 132, 3, 1, 167, 255, 168]
abbrev dktX4_gridPoints_3 : List UInt8 := dkwX4_gridPoints_3 ++ dktX4_gridPoints_4
def dkwX4_gridPoints_2 : List UInt8 := [180, 0, 44, 180, 0, 85, 21, 5, 46, 100, 184, 0, 103, 42, 180, 0, 44, 180, 0, 88, 21, 4, 46, 42]
abbrev dktX4_gridPoints_2 : List UInt8 := dkwX4_gridPoints_2 ++ dktX4_gridPoints_3
def dkwX4_gridPoints_1 : List UInt8 := [54, 4, 42, 27, 29, 4, 96, 182, 0, 95, 54, 5, 28, 42, 180, 0, 44, 180, 0, 85, 21, 4, 46, 42]
abbrev dktX4_gridPoints_1 : List UInt8 := dkwX4_gridPoints_1 ++ dktX4_gridPoints_2
def dkwX4_gridPoints_0 : List UInt8 := [3, 61, 3, 62, 29, 42, 180, 0, 20, 180, 0, 82, 27, 46, 162, 0, 81, 42, 27, 29, 182, 0, 95]
abbrev dktX4_gridPoints_0 : List UInt8 := dkwX4_gridPoints_0 ++ dktX4_gridPoints_1
theorem dksX4_gridPoints_0 : cX4_gridPoints.data.toList.drop 0 = dktX4_gridPoints_0 := by decide +kernel
theorem dksX4_gridPoints_1 : cX4_gridPoints.data.toList.drop 23 = dktX4_gridPoints_1 := dk_seg dksX4_gridPoints_0 23 rfl rfl
theorem dksX4_gridPoints_2 : cX4_gridPoints.data.toList.drop 47 = dktX4_gridPoints_2 := dk_seg dksX4_gridPoints_1 24 rfl rfl
theorem dksX4_gridPoints_3 : cX4_gridPoints.data.toList.drop 71 = dktX4_gridPoints_3 := dk_seg dksX4_gridPoints_2 24 rfl rfl
theorem dksX4_gridPoints_4 : cX4_gridPoints.data.toList.drop 95 = dktX4_gridPoints_4 := dk_seg dksX4_gridPoints_3 24 rfl rfl
theorem dX4_gridPoints_0 : decode cX4_gridPoints 0 = .ok (.iconst 0, 1) := dk_3 (dk_at dksX4_gridPoints_0 0 rfl rfl)
theorem dX4_gridPoints_1 : decode cX4_gridPoints 1 = .ok (.istore_n 2, 1) := dk_61 (dk_at dksX4_gridPoints_0 1 rfl rfl)
theorem dX4_gridPoints_2 : decode cX4_gridPoints 2 = .ok (.iconst 0, 1) := dk_3 (dk_at dksX4_gridPoints_0 2 rfl rfl)
theorem dX4_gridPoints_3 : decode cX4_gridPoints 3 = .ok (.istore_n 3, 1) := dk_62 (dk_at dksX4_gridPoints_0 3 rfl rfl)
theorem dX4_gridPoints_4 : decode cX4_gridPoints 4 = .ok (.iload_n 3, 1) := dk_29 (dk_at dksX4_gridPoints_0 4 rfl rfl)
theorem dX4_gridPoints_5 : decode cX4_gridPoints 5 = .ok (.aload_n 0, 1) := dk_42 (dk_at dksX4_gridPoints_0 5 rfl rfl)
theorem dX4_gridPoints_6 : decode cX4_gridPoints 6 = .ok (.getfield 20, 3) := dk_180 0 20 (dk_at dksX4_gridPoints_0 6 rfl rfl)
theorem dX4_gridPoints_9 : decode cX4_gridPoints 9 = .ok (.getfield 82, 3) := dk_180 0 82 (dk_at dksX4_gridPoints_0 9 rfl rfl)
theorem dX4_gridPoints_12 : decode cX4_gridPoints 12 = .ok (.iload_n 1, 1) := dk_27 (dk_at dksX4_gridPoints_0 12 rfl rfl)
theorem dX4_gridPoints_13 : decode cX4_gridPoints 13 = .ok (.iaload, 1) := dk_46 (dk_at dksX4_gridPoints_0 13 rfl rfl)
theorem dX4_gridPoints_14 : decode cX4_gridPoints 14 = .ok (.if_icmp .ge 81, 3) := dk_162 0 81 (dk_at dksX4_gridPoints_0 14 rfl rfl)
theorem dX4_gridPoints_17 : decode cX4_gridPoints 17 = .ok (.aload_n 0, 1) := dk_42 (dk_at dksX4_gridPoints_0 17 rfl rfl)
theorem dX4_gridPoints_18 : decode cX4_gridPoints 18 = .ok (.iload_n 1, 1) := dk_27 (dk_at dksX4_gridPoints_0 18 rfl rfl)
theorem dX4_gridPoints_19 : decode cX4_gridPoints 19 = .ok (.iload_n 3, 1) := dk_29 (dk_at dksX4_gridPoints_0 19 rfl rfl)
theorem dX4_gridPoints_20 : decode cX4_gridPoints 20 = .ok (.invokevirtual 95, 3) := dk_182 0 95 (dk_at dksX4_gridPoints_0 20 rfl rfl)
theorem dX4_gridPoints_23 : decode cX4_gridPoints 23 = .ok (.istore 4, 2) := dk_54 4 (dk_at dksX4_gridPoints_1 0 rfl rfl)
theorem dX4_gridPoints_25 : decode cX4_gridPoints 25 = .ok (.aload_n 0, 1) := dk_42 (dk_at dksX4_gridPoints_1 2 rfl rfl)
theorem dX4_gridPoints_26 : decode cX4_gridPoints 26 = .ok (.iload_n 1, 1) := dk_27 (dk_at dksX4_gridPoints_1 3 rfl rfl)
theorem dX4_gridPoints_27 : decode cX4_gridPoints 27 = .ok (.iload_n 3, 1) := dk_29 (dk_at dksX4_gridPoints_1 4 rfl rfl)
theorem dX4_gridPoints_28 : decode cX4_gridPoints 28 = .ok (.iconst 1, 1) := dk_4 (dk_at dksX4_gridPoints_1 5 rfl rfl)
theorem dX4_gridPoints_29 : decode cX4_gridPoints 29 = .ok (.iadd, 1) := dk_96 (dk_at dksX4_gridPoints_1 6 rfl rfl)
theorem dX4_gridPoints_30 : decode cX4_gridPoints 30 = .ok (.invokevirtual 95, 3) := dk_182 0 95 (dk_at dksX4_gridPoints_1 7 rfl rfl)
theorem dX4_gridPoints_33 : decode cX4_gridPoints 33 = .ok (.istore 5, 2) := dk_54 5 (dk_at dksX4_gridPoints_1 10 rfl rfl)
theorem dX4_gridPoints_35 : decode cX4_gridPoints 35 = .ok (.iload_n 2, 1) := dk_28 (dk_at dksX4_gridPoints_1 12 rfl rfl)
theorem dX4_gridPoints_36 : decode cX4_gridPoints 36 = .ok (.aload_n 0, 1) := dk_42 (dk_at dksX4_gridPoints_1 13 rfl rfl)
theorem dX4_gridPoints_37 : decode cX4_gridPoints 37 = .ok (.getfield 44, 3) := dk_180 0 44 (dk_at dksX4_gridPoints_1 14 rfl rfl)
theorem dX4_gridPoints_40 : decode cX4_gridPoints 40 = .ok (.getfield 85, 3) := dk_180 0 85 (dk_at dksX4_gridPoints_1 17 rfl rfl)
theorem dX4_gridPoints_43 : decode cX4_gridPoints 43 = .ok (.iload 4, 2) := dk_21 4 (dk_at dksX4_gridPoints_1 20 rfl rfl)
theorem dX4_gridPoints_45 : decode cX4_gridPoints 45 = .ok (.iaload, 1) := dk_46 (dk_at dksX4_gridPoints_1 22 rfl rfl)
theorem dX4_gridPoints_46 : decode cX4_gridPoints 46 = .ok (.aload_n 0, 1) := dk_42 (dk_at dksX4_gridPoints_1 23 rfl rfl)
theorem dX4_gridPoints_47 : decode cX4_gridPoints 47 = .ok (.getfield 44, 3) := dk_180 0 44 (dk_at dksX4_gridPoints_2 0 rfl rfl)
theorem dX4_gridPoints_50 : decode cX4_gridPoints 50 = .ok (.getfield 85, 3) := dk_180 0 85 (dk_at dksX4_gridPoints_2 3 rfl rfl)
theorem dX4_gridPoints_53 : decode cX4_gridPoints 53 = .ok (.iload 5, 2) := dk_21 5 (dk_at dksX4_gridPoints_2 6 rfl rfl)
theorem dX4_gridPoints_55 : decode cX4_gridPoints 55 = .ok (.iaload, 1) := dk_46 (dk_at dksX4_gridPoints_2 8 rfl rfl)
theorem dX4_gridPoints_56 : decode cX4_gridPoints 56 = .ok (.isub, 1) := dk_100 (dk_at dksX4_gridPoints_2 9 rfl rfl)
theorem dX4_gridPoints_57 : decode cX4_gridPoints 57 = .ok (.invokestatic 103, 3) := dk_184 0 103 (dk_at dksX4_gridPoints_2 10 rfl rfl)
theorem dX4_gridPoints_60 : decode cX4_gridPoints 60 = .ok (.aload_n 0, 1) := dk_42 (dk_at dksX4_gridPoints_2 13 rfl rfl)
theorem dX4_gridPoints_61 : decode cX4_gridPoints 61 = .ok (.getfield 44, 3) := dk_180 0 44 (dk_at dksX4_gridPoints_2 14 rfl rfl)
theorem dX4_gridPoints_64 : decode cX4_gridPoints 64 = .ok (.getfield 88, 3) := dk_180 0 88 (dk_at dksX4_gridPoints_2 17 rfl rfl)
theorem dX4_gridPoints_67 : decode cX4_gridPoints 67 = .ok (.iload 4, 2) := dk_21 4 (dk_at dksX4_gridPoints_2 20 rfl rfl)
theorem dX4_gridPoints_69 : decode cX4_gridPoints 69 = .ok (.iaload, 1) := dk_46 (dk_at dksX4_gridPoints_2 22 rfl rfl)
theorem dX4_gridPoints_70 : decode cX4_gridPoints 70 = .ok (.aload_n 0, 1) := dk_42 (dk_at dksX4_gridPoints_2 23 rfl rfl)
theorem dX4_gridPoints_71 : decode cX4_gridPoints 71 = .ok (.getfield 44, 3) := dk_180 0 44 (dk_at dksX4_gridPoints_3 0 rfl rfl)
theorem dX4_gridPoints_74 : decode cX4_gridPoints 74 = .ok (.getfield 88, 3) := dk_180 0 88 (dk_at dksX4_gridPoints_3 3 rfl rfl)
theorem dX4_gridPoints_77 : decode cX4_gridPoints 77 = .ok (.iload 5, 2) := dk_21 5 (dk_at dksX4_gridPoints_3 6 rfl rfl)
theorem dX4_gridPoints_79 : decode cX4_gridPoints 79 = .ok (.iaload, 1) := dk_46 (dk_at dksX4_gridPoints_3 8 rfl rfl)
theorem dX4_gridPoints_80 : decode cX4_gridPoints 80 = .ok (.isub, 1) := dk_100 (dk_at dksX4_gridPoints_3 9 rfl rfl)
theorem dX4_gridPoints_81 : decode cX4_gridPoints 81 = .ok (.invokestatic 103, 3) := dk_184 0 103 (dk_at dksX4_gridPoints_3 10 rfl rfl)
theorem dX4_gridPoints_84 : decode cX4_gridPoints 84 = .ok (.invokestatic 415, 3) := dk_184 1 159 (dk_at dksX4_gridPoints_3 13 rfl rfl)
theorem dX4_gridPoints_87 : decode cX4_gridPoints 87 = .ok (.iadd, 1) := dk_96 (dk_at dksX4_gridPoints_3 16 rfl rfl)
theorem dX4_gridPoints_88 : decode cX4_gridPoints 88 = .ok (.istore_n 2, 1) := dk_61 (dk_at dksX4_gridPoints_3 17 rfl rfl)
theorem dX4_gridPoints_89 : decode cX4_gridPoints 89 = .ok (.iinc 3 1, 3) := dk_132 3 1 (dk_at dksX4_gridPoints_3 18 rfl rfl)
theorem dX4_gridPoints_92 : decode cX4_gridPoints 92 = .ok (.goto (-88), 3) := dk_167 255 168 (dk_at dksX4_gridPoints_3 21 rfl rfl)
theorem dX4_gridPoints_95 : decode cX4_gridPoints 95 = .ok (.iload_n 2, 1) := dk_28 (dk_at dksX4_gridPoints_4 0 rfl rfl)
theorem dX4_gridPoints_96 : decode cX4_gridPoints 96 = .ok (.ireturn, 1) := dk_172 (dk_at dksX4_gridPoints_4 1 rfl rfl)
abbrev cX4_divisor : ByteArray := prog_40_method_85_code
def yX4_divisor : MethodName := ⟨RX4, "divisor", "(II)I"⟩
def dkwX4_divisor_0 : List UInt8 := [27, 154, 0, 7, 26, 167, 0, 10, 27, 26, 27, 112, 184, 1, 159, 172]
abbrev dktX4_divisor_0 : List UInt8 := dkwX4_divisor_0 ++ []
theorem dksX4_divisor_0 : cX4_divisor.data.toList.drop 0 = dktX4_divisor_0 := by decide +kernel
theorem dX4_divisor_0 : decode cX4_divisor 0 = .ok (.iload_n 1, 1) := dk_27 (dk_at dksX4_divisor_0 0 rfl rfl)
theorem dX4_divisor_1 : decode cX4_divisor 1 = .ok (.ifCond .ne 7, 3) := dk_154 0 7 (dk_at dksX4_divisor_0 1 rfl rfl)
theorem dX4_divisor_4 : decode cX4_divisor 4 = .ok (.iload_n 0, 1) := dk_26 (dk_at dksX4_divisor_0 4 rfl rfl)
theorem dX4_divisor_5 : decode cX4_divisor 5 = .ok (.goto 10, 3) := dk_167 0 10 (dk_at dksX4_divisor_0 5 rfl rfl)
theorem dX4_divisor_8 : decode cX4_divisor 8 = .ok (.iload_n 1, 1) := dk_27 (dk_at dksX4_divisor_0 8 rfl rfl)
theorem dX4_divisor_9 : decode cX4_divisor 9 = .ok (.iload_n 0, 1) := dk_26 (dk_at dksX4_divisor_0 9 rfl rfl)
theorem dX4_divisor_10 : decode cX4_divisor 10 = .ok (.iload_n 1, 1) := dk_27 (dk_at dksX4_divisor_0 10 rfl rfl)
theorem dX4_divisor_11 : decode cX4_divisor 11 = .ok (.irem, 1) := dk_112 (dk_at dksX4_divisor_0 11 rfl rfl)
theorem dX4_divisor_12 : decode cX4_divisor 12 = .ok (.invokestatic 415, 3) := dk_184 1 159 (dk_at dksX4_divisor_0 12 rfl rfl)
theorem dX4_divisor_15 : decode cX4_divisor 15 = .ok (.ireturn, 1) := dk_172 (dk_at dksX4_divisor_0 15 rfl rfl)
abbrev cX4_neverRight : ByteArray := prog_40_method_87_code
def yX4_neverRight : MethodName := ⟨RX4, "neverRight", "(I)I"⟩
def dkwX4_neverRight_2 : List UInt8 := [132, 2, 1, 167, 255, 209, 4, 172]
abbrev dktX4_neverRight_2 : List UInt8 := dkwX4_neverRight_2 ++ []
def dkwX4_neverRight_1 : List UInt8 := [28, 4, 96, 182, 0, 95, 42, 27, 28, 5, 96, 182, 0, 95, 182, 0, 106, 156, 0, 5, 3, 172]
abbrev dktX4_neverRight_1 : List UInt8 := dkwX4_neverRight_1 ++ dktX4_neverRight_2
def dkwX4_neverRight_0 : List UInt8 := [3, 61, 28, 42, 180, 0, 20, 180, 0, 82, 27, 46, 162, 0, 40, 42, 42, 27, 28, 182, 0, 95, 42, 27]
abbrev dktX4_neverRight_0 : List UInt8 := dkwX4_neverRight_0 ++ dktX4_neverRight_1
theorem dksX4_neverRight_0 : cX4_neverRight.data.toList.drop 0 = dktX4_neverRight_0 := by decide +kernel
theorem dksX4_neverRight_1 : cX4_neverRight.data.toList.drop 24 = dktX4_neverRight_1 := dk_seg dksX4_neverRight_0 24 rfl rfl
theorem dksX4_neverRight_2 : cX4_neverRight.data.toList.drop 46 = dktX4_neverRight_2 := dk_seg dksX4_neverRight_1 22 rfl rfl
theorem dX4_neverRight_0 : decode cX4_neverRight 0 = .ok (.iconst 0, 1) := dk_3 (dk_at dksX4_neverRight_0 0 rfl rfl)
theorem dX4_neverRight_1 : decode cX4_neverRight 1 = .ok (.istore_n 2, 1) := dk_61 (dk_at dksX4_neverRight_0 1 rfl rfl)
theorem dX4_neverRight_2 : decode cX4_neverRight 2 = .ok (.iload_n 2, 1) := dk_28 (dk_at dksX4_neverRight_0 2 rfl rfl)
theorem dX4_neverRight_3 : decode cX4_neverRight 3 = .ok (.aload_n 0, 1) := dk_42 (dk_at dksX4_neverRight_0 3 rfl rfl)
theorem dX4_neverRight_4 : decode cX4_neverRight 4 = .ok (.getfield 20, 3) := dk_180 0 20 (dk_at dksX4_neverRight_0 4 rfl rfl)
theorem dX4_neverRight_7 : decode cX4_neverRight 7 = .ok (.getfield 82, 3) := dk_180 0 82 (dk_at dksX4_neverRight_0 7 rfl rfl)
theorem dX4_neverRight_10 : decode cX4_neverRight 10 = .ok (.iload_n 1, 1) := dk_27 (dk_at dksX4_neverRight_0 10 rfl rfl)
theorem dX4_neverRight_11 : decode cX4_neverRight 11 = .ok (.iaload, 1) := dk_46 (dk_at dksX4_neverRight_0 11 rfl rfl)
theorem dX4_neverRight_12 : decode cX4_neverRight 12 = .ok (.if_icmp .ge 40, 3) := dk_162 0 40 (dk_at dksX4_neverRight_0 12 rfl rfl)
theorem dX4_neverRight_15 : decode cX4_neverRight 15 = .ok (.aload_n 0, 1) := dk_42 (dk_at dksX4_neverRight_0 15 rfl rfl)
theorem dX4_neverRight_16 : decode cX4_neverRight 16 = .ok (.aload_n 0, 1) := dk_42 (dk_at dksX4_neverRight_0 16 rfl rfl)
theorem dX4_neverRight_17 : decode cX4_neverRight 17 = .ok (.iload_n 1, 1) := dk_27 (dk_at dksX4_neverRight_0 17 rfl rfl)
theorem dX4_neverRight_18 : decode cX4_neverRight 18 = .ok (.iload_n 2, 1) := dk_28 (dk_at dksX4_neverRight_0 18 rfl rfl)
theorem dX4_neverRight_19 : decode cX4_neverRight 19 = .ok (.invokevirtual 95, 3) := dk_182 0 95 (dk_at dksX4_neverRight_0 19 rfl rfl)
theorem dX4_neverRight_22 : decode cX4_neverRight 22 = .ok (.aload_n 0, 1) := dk_42 (dk_at dksX4_neverRight_0 22 rfl rfl)
theorem dX4_neverRight_23 : decode cX4_neverRight 23 = .ok (.iload_n 1, 1) := dk_27 (dk_at dksX4_neverRight_0 23 rfl rfl)
theorem dX4_neverRight_24 : decode cX4_neverRight 24 = .ok (.iload_n 2, 1) := dk_28 (dk_at dksX4_neverRight_1 0 rfl rfl)
theorem dX4_neverRight_25 : decode cX4_neverRight 25 = .ok (.iconst 1, 1) := dk_4 (dk_at dksX4_neverRight_1 1 rfl rfl)
theorem dX4_neverRight_26 : decode cX4_neverRight 26 = .ok (.iadd, 1) := dk_96 (dk_at dksX4_neverRight_1 2 rfl rfl)
theorem dX4_neverRight_27 : decode cX4_neverRight 27 = .ok (.invokevirtual 95, 3) := dk_182 0 95 (dk_at dksX4_neverRight_1 3 rfl rfl)
theorem dX4_neverRight_30 : decode cX4_neverRight 30 = .ok (.aload_n 0, 1) := dk_42 (dk_at dksX4_neverRight_1 6 rfl rfl)
theorem dX4_neverRight_31 : decode cX4_neverRight 31 = .ok (.iload_n 1, 1) := dk_27 (dk_at dksX4_neverRight_1 7 rfl rfl)
theorem dX4_neverRight_32 : decode cX4_neverRight 32 = .ok (.iload_n 2, 1) := dk_28 (dk_at dksX4_neverRight_1 8 rfl rfl)
theorem dX4_neverRight_33 : decode cX4_neverRight 33 = .ok (.iconst 2, 1) := dk_5 (dk_at dksX4_neverRight_1 9 rfl rfl)
theorem dX4_neverRight_34 : decode cX4_neverRight 34 = .ok (.iadd, 1) := dk_96 (dk_at dksX4_neverRight_1 10 rfl rfl)
theorem dX4_neverRight_35 : decode cX4_neverRight 35 = .ok (.invokevirtual 95, 3) := dk_182 0 95 (dk_at dksX4_neverRight_1 11 rfl rfl)
theorem dX4_neverRight_38 : decode cX4_neverRight 38 = .ok (.invokevirtual 106, 3) := dk_182 0 106 (dk_at dksX4_neverRight_1 14 rfl rfl)
theorem dX4_neverRight_41 : decode cX4_neverRight 41 = .ok (.ifCond .ge 5, 3) := dk_156 0 5 (dk_at dksX4_neverRight_1 17 rfl rfl)
theorem dX4_neverRight_44 : decode cX4_neverRight 44 = .ok (.iconst 0, 1) := dk_3 (dk_at dksX4_neverRight_1 20 rfl rfl)
theorem dX4_neverRight_45 : decode cX4_neverRight 45 = .ok (.ireturn, 1) := dk_172 (dk_at dksX4_neverRight_1 21 rfl rfl)
theorem dX4_neverRight_46 : decode cX4_neverRight 46 = .ok (.iinc 2 1, 3) := dk_132 2 1 (dk_at dksX4_neverRight_2 0 rfl rfl)
theorem dX4_neverRight_49 : decode cX4_neverRight 49 = .ok (.goto (-47), 3) := dk_167 255 209 (dk_at dksX4_neverRight_2 3 rfl rfl)
theorem dX4_neverRight_52 : decode cX4_neverRight 52 = .ok (.iconst 1, 1) := dk_4 (dk_at dksX4_neverRight_2 6 rfl rfl)
theorem dX4_neverRight_53 : decode cX4_neverRight 53 = .ok (.ireturn, 1) := dk_172 (dk_at dksX4_neverRight_2 7 rfl rfl)
abbrev cX4_corner : ByteArray := prog_40_method_90_code
def yX4_corner : MethodName := ⟨RX4, "corner", "(II)I"⟩
def dkwX4_corner_2 : List UInt8 := [167, 0, 8, 42, 4, 182, 1, 122, 172]
abbrev dktX4_corner_2 : List UInt8 := dkwX4_corner_2 ++ []
def dkwX4_corner_1 : List UInt8 := [4, 100, 184, 0, 69, 153, 0, 20, 42, 180, 0, 20, 180, 0, 79, 16, 8, 27, 104, 28, 96, 46]
abbrev dktX4_corner_1 : List UInt8 := dkwX4_corner_1 ++ dktX4_corner_2
def dkwX4_corner_0 : List UInt8 := [42, 3, 181, 0, 50, 42, 27, 182, 1, 173, 153, 0, 39, 28, 3, 42, 180, 0, 20, 180, 0, 82, 27, 46]
abbrev dktX4_corner_0 : List UInt8 := dkwX4_corner_0 ++ dktX4_corner_1
theorem dksX4_corner_0 : cX4_corner.data.toList.drop 0 = dktX4_corner_0 := by decide +kernel
theorem dksX4_corner_1 : cX4_corner.data.toList.drop 24 = dktX4_corner_1 := dk_seg dksX4_corner_0 24 rfl rfl
theorem dksX4_corner_2 : cX4_corner.data.toList.drop 46 = dktX4_corner_2 := dk_seg dksX4_corner_1 22 rfl rfl
theorem dX4_corner_0 : decode cX4_corner 0 = .ok (.aload_n 0, 1) := dk_42 (dk_at dksX4_corner_0 0 rfl rfl)
theorem dX4_corner_1 : decode cX4_corner 1 = .ok (.iconst 0, 1) := dk_3 (dk_at dksX4_corner_0 1 rfl rfl)
theorem dX4_corner_2 : decode cX4_corner 2 = .ok (.putfield 50, 3) := dk_181 0 50 (dk_at dksX4_corner_0 2 rfl rfl)
theorem dX4_corner_5 : decode cX4_corner 5 = .ok (.aload_n 0, 1) := dk_42 (dk_at dksX4_corner_0 5 rfl rfl)
theorem dX4_corner_6 : decode cX4_corner 6 = .ok (.iload_n 1, 1) := dk_27 (dk_at dksX4_corner_0 6 rfl rfl)
theorem dX4_corner_7 : decode cX4_corner 7 = .ok (.invokevirtual 429, 3) := dk_182 1 173 (dk_at dksX4_corner_0 7 rfl rfl)
theorem dX4_corner_10 : decode cX4_corner 10 = .ok (.ifCond .eq 39, 3) := dk_153 0 39 (dk_at dksX4_corner_0 10 rfl rfl)
theorem dX4_corner_13 : decode cX4_corner 13 = .ok (.iload_n 2, 1) := dk_28 (dk_at dksX4_corner_0 13 rfl rfl)
theorem dX4_corner_14 : decode cX4_corner 14 = .ok (.iconst 0, 1) := dk_3 (dk_at dksX4_corner_0 14 rfl rfl)
theorem dX4_corner_15 : decode cX4_corner 15 = .ok (.aload_n 0, 1) := dk_42 (dk_at dksX4_corner_0 15 rfl rfl)
theorem dX4_corner_16 : decode cX4_corner 16 = .ok (.getfield 20, 3) := dk_180 0 20 (dk_at dksX4_corner_0 16 rfl rfl)
theorem dX4_corner_19 : decode cX4_corner 19 = .ok (.getfield 82, 3) := dk_180 0 82 (dk_at dksX4_corner_0 19 rfl rfl)
theorem dX4_corner_22 : decode cX4_corner 22 = .ok (.iload_n 1, 1) := dk_27 (dk_at dksX4_corner_0 22 rfl rfl)
theorem dX4_corner_23 : decode cX4_corner 23 = .ok (.iaload, 1) := dk_46 (dk_at dksX4_corner_0 23 rfl rfl)
theorem dX4_corner_24 : decode cX4_corner 24 = .ok (.iconst 1, 1) := dk_4 (dk_at dksX4_corner_1 0 rfl rfl)
theorem dX4_corner_25 : decode cX4_corner 25 = .ok (.isub, 1) := dk_100 (dk_at dksX4_corner_1 1 rfl rfl)
theorem dX4_corner_26 : decode cX4_corner 26 = .ok (.invokestatic 69, 3) := dk_184 0 69 (dk_at dksX4_corner_1 2 rfl rfl)
theorem dX4_corner_29 : decode cX4_corner 29 = .ok (.ifCond .eq 20, 3) := dk_153 0 20 (dk_at dksX4_corner_1 5 rfl rfl)
theorem dX4_corner_32 : decode cX4_corner 32 = .ok (.aload_n 0, 1) := dk_42 (dk_at dksX4_corner_1 8 rfl rfl)
theorem dX4_corner_33 : decode cX4_corner 33 = .ok (.getfield 20, 3) := dk_180 0 20 (dk_at dksX4_corner_1 9 rfl rfl)
theorem dX4_corner_36 : decode cX4_corner 36 = .ok (.getfield 79, 3) := dk_180 0 79 (dk_at dksX4_corner_1 12 rfl rfl)
theorem dX4_corner_39 : decode cX4_corner 39 = .ok (.bipush 8, 2) := dk_16 8 (dk_at dksX4_corner_1 15 rfl rfl)
theorem dX4_corner_41 : decode cX4_corner 41 = .ok (.iload_n 1, 1) := dk_27 (dk_at dksX4_corner_1 17 rfl rfl)
theorem dX4_corner_42 : decode cX4_corner 42 = .ok (.imul, 1) := dk_104 (dk_at dksX4_corner_1 18 rfl rfl)
theorem dX4_corner_43 : decode cX4_corner 43 = .ok (.iload_n 2, 1) := dk_28 (dk_at dksX4_corner_1 19 rfl rfl)
theorem dX4_corner_44 : decode cX4_corner 44 = .ok (.iadd, 1) := dk_96 (dk_at dksX4_corner_1 20 rfl rfl)
theorem dX4_corner_45 : decode cX4_corner 45 = .ok (.iaload, 1) := dk_46 (dk_at dksX4_corner_1 21 rfl rfl)
theorem dX4_corner_46 : decode cX4_corner 46 = .ok (.goto 8, 3) := dk_167 0 8 (dk_at dksX4_corner_2 0 rfl rfl)
theorem dX4_corner_49 : decode cX4_corner 49 = .ok (.aload_n 0, 1) := dk_42 (dk_at dksX4_corner_2 3 rfl rfl)
theorem dX4_corner_50 : decode cX4_corner 50 = .ok (.iconst 1, 1) := dk_4 (dk_at dksX4_corner_2 4 rfl rfl)
theorem dX4_corner_51 : decode cX4_corner 51 = .ok (.invokevirtual 378, 3) := dk_182 1 122 (dk_at dksX4_corner_2 5 rfl rfl)
theorem dX4_corner_54 : decode cX4_corner 54 = .ok (.ireturn, 1) := dk_172 (dk_at dksX4_corner_2 8 rfl rfl)
abbrev cX4_lies : ByteArray := prog_40_method_91_code
def yX4_lies : MethodName := ⟨RX4, "lies", "(II)I"⟩
def dkwX4_lies_1 : List UInt8 := [182, 1, 122, 172, 42, 42, 180, 0, 27, 182, 1, 144, 42, 27, 28, 182, 0, 155, 172]
abbrev dktX4_lies_1 : List UInt8 := dkwX4_lies_1 ++ []
def dkwX4_lies_0 : List UInt8 := [42, 3, 181, 0, 50, 42, 27, 182, 1, 153, 153, 0, 11, 42, 28, 182, 1, 173, 154, 0, 9, 42, 4]
abbrev dktX4_lies_0 : List UInt8 := dkwX4_lies_0 ++ dktX4_lies_1
theorem dksX4_lies_0 : cX4_lies.data.toList.drop 0 = dktX4_lies_0 := by decide +kernel
theorem dksX4_lies_1 : cX4_lies.data.toList.drop 23 = dktX4_lies_1 := dk_seg dksX4_lies_0 23 rfl rfl
theorem dX4_lies_0 : decode cX4_lies 0 = .ok (.aload_n 0, 1) := dk_42 (dk_at dksX4_lies_0 0 rfl rfl)
theorem dX4_lies_1 : decode cX4_lies 1 = .ok (.iconst 0, 1) := dk_3 (dk_at dksX4_lies_0 1 rfl rfl)
theorem dX4_lies_2 : decode cX4_lies 2 = .ok (.putfield 50, 3) := dk_181 0 50 (dk_at dksX4_lies_0 2 rfl rfl)
theorem dX4_lies_5 : decode cX4_lies 5 = .ok (.aload_n 0, 1) := dk_42 (dk_at dksX4_lies_0 5 rfl rfl)
theorem dX4_lies_6 : decode cX4_lies 6 = .ok (.iload_n 1, 1) := dk_27 (dk_at dksX4_lies_0 6 rfl rfl)
theorem dX4_lies_7 : decode cX4_lies 7 = .ok (.invokevirtual 409, 3) := dk_182 1 153 (dk_at dksX4_lies_0 7 rfl rfl)
theorem dX4_lies_10 : decode cX4_lies 10 = .ok (.ifCond .eq 11, 3) := dk_153 0 11 (dk_at dksX4_lies_0 10 rfl rfl)
theorem dX4_lies_13 : decode cX4_lies 13 = .ok (.aload_n 0, 1) := dk_42 (dk_at dksX4_lies_0 13 rfl rfl)
theorem dX4_lies_14 : decode cX4_lies 14 = .ok (.iload_n 2, 1) := dk_28 (dk_at dksX4_lies_0 14 rfl rfl)
theorem dX4_lies_15 : decode cX4_lies 15 = .ok (.invokevirtual 429, 3) := dk_182 1 173 (dk_at dksX4_lies_0 15 rfl rfl)
theorem dX4_lies_18 : decode cX4_lies 18 = .ok (.ifCond .ne 9, 3) := dk_154 0 9 (dk_at dksX4_lies_0 18 rfl rfl)
theorem dX4_lies_21 : decode cX4_lies 21 = .ok (.aload_n 0, 1) := dk_42 (dk_at dksX4_lies_0 21 rfl rfl)
theorem dX4_lies_22 : decode cX4_lies 22 = .ok (.iconst 1, 1) := dk_4 (dk_at dksX4_lies_0 22 rfl rfl)
theorem dX4_lies_23 : decode cX4_lies 23 = .ok (.invokevirtual 378, 3) := dk_182 1 122 (dk_at dksX4_lies_1 0 rfl rfl)
theorem dX4_lies_26 : decode cX4_lies 26 = .ok (.ireturn, 1) := dk_172 (dk_at dksX4_lies_1 3 rfl rfl)
theorem dX4_lies_27 : decode cX4_lies 27 = .ok (.aload_n 0, 1) := dk_42 (dk_at dksX4_lies_1 4 rfl rfl)
theorem dX4_lies_28 : decode cX4_lies 28 = .ok (.aload_n 0, 1) := dk_42 (dk_at dksX4_lies_1 5 rfl rfl)
theorem dX4_lies_29 : decode cX4_lies 29 = .ok (.getfield 27, 3) := dk_180 0 27 (dk_at dksX4_lies_1 6 rfl rfl)
theorem dX4_lies_32 : decode cX4_lies 32 = .ok (.invokevirtual 400, 3) := dk_182 1 144 (dk_at dksX4_lies_1 9 rfl rfl)
theorem dX4_lies_35 : decode cX4_lies 35 = .ok (.aload_n 0, 1) := dk_42 (dk_at dksX4_lies_1 12 rfl rfl)
theorem dX4_lies_36 : decode cX4_lies 36 = .ok (.iload_n 1, 1) := dk_27 (dk_at dksX4_lies_1 13 rfl rfl)
theorem dX4_lies_37 : decode cX4_lies 37 = .ok (.iload_n 2, 1) := dk_28 (dk_at dksX4_lies_1 14 rfl rfl)
theorem dX4_lies_38 : decode cX4_lies 38 = .ok (.invokevirtual 155, 3) := dk_182 0 155 (dk_at dksX4_lies_1 15 rfl rfl)
theorem dX4_lies_41 : decode cX4_lies 41 = .ok (.ireturn, 1) := dk_172 (dk_at dksX4_lies_1 18 rfl rfl)
abbrev cX4_crosses : ByteArray := prog_40_method_92_code
def yX4_crosses : MethodName := ⟨RX4, "crosses", "(II)I"⟩
def dkwX4_crosses_1 : List UInt8 := [182, 1, 122, 172, 42, 42, 180, 0, 27, 182, 1, 144, 42, 27, 28, 182, 0, 170, 172]
abbrev dktX4_crosses_1 : List UInt8 := dkwX4_crosses_1 ++ []
def dkwX4_crosses_0 : List UInt8 := [42, 3, 181, 0, 50, 42, 27, 182, 1, 173, 153, 0, 11, 42, 28, 182, 1, 173, 154, 0, 9, 42, 4]
abbrev dktX4_crosses_0 : List UInt8 := dkwX4_crosses_0 ++ dktX4_crosses_1
theorem dksX4_crosses_0 : cX4_crosses.data.toList.drop 0 = dktX4_crosses_0 := by decide +kernel
theorem dksX4_crosses_1 : cX4_crosses.data.toList.drop 23 = dktX4_crosses_1 := dk_seg dksX4_crosses_0 23 rfl rfl
theorem dX4_crosses_0 : decode cX4_crosses 0 = .ok (.aload_n 0, 1) := dk_42 (dk_at dksX4_crosses_0 0 rfl rfl)
theorem dX4_crosses_1 : decode cX4_crosses 1 = .ok (.iconst 0, 1) := dk_3 (dk_at dksX4_crosses_0 1 rfl rfl)
theorem dX4_crosses_2 : decode cX4_crosses 2 = .ok (.putfield 50, 3) := dk_181 0 50 (dk_at dksX4_crosses_0 2 rfl rfl)
theorem dX4_crosses_5 : decode cX4_crosses 5 = .ok (.aload_n 0, 1) := dk_42 (dk_at dksX4_crosses_0 5 rfl rfl)
theorem dX4_crosses_6 : decode cX4_crosses 6 = .ok (.iload_n 1, 1) := dk_27 (dk_at dksX4_crosses_0 6 rfl rfl)
theorem dX4_crosses_7 : decode cX4_crosses 7 = .ok (.invokevirtual 429, 3) := dk_182 1 173 (dk_at dksX4_crosses_0 7 rfl rfl)
theorem dX4_crosses_10 : decode cX4_crosses 10 = .ok (.ifCond .eq 11, 3) := dk_153 0 11 (dk_at dksX4_crosses_0 10 rfl rfl)
theorem dX4_crosses_13 : decode cX4_crosses 13 = .ok (.aload_n 0, 1) := dk_42 (dk_at dksX4_crosses_0 13 rfl rfl)
theorem dX4_crosses_14 : decode cX4_crosses 14 = .ok (.iload_n 2, 1) := dk_28 (dk_at dksX4_crosses_0 14 rfl rfl)
theorem dX4_crosses_15 : decode cX4_crosses 15 = .ok (.invokevirtual 429, 3) := dk_182 1 173 (dk_at dksX4_crosses_0 15 rfl rfl)
theorem dX4_crosses_18 : decode cX4_crosses 18 = .ok (.ifCond .ne 9, 3) := dk_154 0 9 (dk_at dksX4_crosses_0 18 rfl rfl)
theorem dX4_crosses_21 : decode cX4_crosses 21 = .ok (.aload_n 0, 1) := dk_42 (dk_at dksX4_crosses_0 21 rfl rfl)
theorem dX4_crosses_22 : decode cX4_crosses 22 = .ok (.iconst 1, 1) := dk_4 (dk_at dksX4_crosses_0 22 rfl rfl)
theorem dX4_crosses_23 : decode cX4_crosses 23 = .ok (.invokevirtual 378, 3) := dk_182 1 122 (dk_at dksX4_crosses_1 0 rfl rfl)
theorem dX4_crosses_26 : decode cX4_crosses 26 = .ok (.ireturn, 1) := dk_172 (dk_at dksX4_crosses_1 3 rfl rfl)
theorem dX4_crosses_27 : decode cX4_crosses 27 = .ok (.aload_n 0, 1) := dk_42 (dk_at dksX4_crosses_1 4 rfl rfl)
theorem dX4_crosses_28 : decode cX4_crosses 28 = .ok (.aload_n 0, 1) := dk_42 (dk_at dksX4_crosses_1 5 rfl rfl)
theorem dX4_crosses_29 : decode cX4_crosses 29 = .ok (.getfield 27, 3) := dk_180 0 27 (dk_at dksX4_crosses_1 6 rfl rfl)
theorem dX4_crosses_32 : decode cX4_crosses 32 = .ok (.invokevirtual 400, 3) := dk_182 1 144 (dk_at dksX4_crosses_1 9 rfl rfl)
theorem dX4_crosses_35 : decode cX4_crosses 35 = .ok (.aload_n 0, 1) := dk_42 (dk_at dksX4_crosses_1 12 rfl rfl)
theorem dX4_crosses_36 : decode cX4_crosses 36 = .ok (.iload_n 1, 1) := dk_27 (dk_at dksX4_crosses_1 13 rfl rfl)
theorem dX4_crosses_37 : decode cX4_crosses 37 = .ok (.iload_n 2, 1) := dk_28 (dk_at dksX4_crosses_1 14 rfl rfl)
theorem dX4_crosses_38 : decode cX4_crosses 38 = .ok (.invokevirtual 170, 3) := dk_182 0 170 (dk_at dksX4_crosses_1 15 rfl rfl)
theorem dX4_crosses_41 : decode cX4_crosses 41 = .ok (.ireturn, 1) := dk_172 (dk_at dksX4_crosses_1 18 rfl rfl)
abbrev cX4_hull : ByteArray := prog_40_method_93_code
def yX4_hull : MethodName := ⟨RX4, "hull", "(II)I"⟩
def dkwX4_hull_1 : List UInt8 := [182, 1, 122, 172, 42, 42, 180, 0, 27, 182, 1, 144, 42, 27, 28, 182, 1, 179, 172]
abbrev dktX4_hull_1 : List UInt8 := dkwX4_hull_1 ++ []
def dkwX4_hull_0 : List UInt8 := [42, 3, 181, 0, 50, 42, 27, 182, 1, 173, 153, 0, 12, 28, 3, 5, 184, 0, 69, 154, 0, 9, 42, 4]
abbrev dktX4_hull_0 : List UInt8 := dkwX4_hull_0 ++ dktX4_hull_1
theorem dksX4_hull_0 : cX4_hull.data.toList.drop 0 = dktX4_hull_0 := by decide +kernel
theorem dksX4_hull_1 : cX4_hull.data.toList.drop 24 = dktX4_hull_1 := dk_seg dksX4_hull_0 24 rfl rfl
theorem dX4_hull_0 : decode cX4_hull 0 = .ok (.aload_n 0, 1) := dk_42 (dk_at dksX4_hull_0 0 rfl rfl)
theorem dX4_hull_1 : decode cX4_hull 1 = .ok (.iconst 0, 1) := dk_3 (dk_at dksX4_hull_0 1 rfl rfl)
theorem dX4_hull_2 : decode cX4_hull 2 = .ok (.putfield 50, 3) := dk_181 0 50 (dk_at dksX4_hull_0 2 rfl rfl)
theorem dX4_hull_5 : decode cX4_hull 5 = .ok (.aload_n 0, 1) := dk_42 (dk_at dksX4_hull_0 5 rfl rfl)
theorem dX4_hull_6 : decode cX4_hull 6 = .ok (.iload_n 1, 1) := dk_27 (dk_at dksX4_hull_0 6 rfl rfl)
theorem dX4_hull_7 : decode cX4_hull 7 = .ok (.invokevirtual 429, 3) := dk_182 1 173 (dk_at dksX4_hull_0 7 rfl rfl)
theorem dX4_hull_10 : decode cX4_hull 10 = .ok (.ifCond .eq 12, 3) := dk_153 0 12 (dk_at dksX4_hull_0 10 rfl rfl)
theorem dX4_hull_13 : decode cX4_hull 13 = .ok (.iload_n 2, 1) := dk_28 (dk_at dksX4_hull_0 13 rfl rfl)
theorem dX4_hull_14 : decode cX4_hull 14 = .ok (.iconst 0, 1) := dk_3 (dk_at dksX4_hull_0 14 rfl rfl)
theorem dX4_hull_15 : decode cX4_hull 15 = .ok (.iconst 2, 1) := dk_5 (dk_at dksX4_hull_0 15 rfl rfl)
theorem dX4_hull_16 : decode cX4_hull 16 = .ok (.invokestatic 69, 3) := dk_184 0 69 (dk_at dksX4_hull_0 16 rfl rfl)
theorem dX4_hull_19 : decode cX4_hull 19 = .ok (.ifCond .ne 9, 3) := dk_154 0 9 (dk_at dksX4_hull_0 19 rfl rfl)
theorem dX4_hull_22 : decode cX4_hull 22 = .ok (.aload_n 0, 1) := dk_42 (dk_at dksX4_hull_0 22 rfl rfl)
theorem dX4_hull_23 : decode cX4_hull 23 = .ok (.iconst 1, 1) := dk_4 (dk_at dksX4_hull_0 23 rfl rfl)
theorem dX4_hull_24 : decode cX4_hull 24 = .ok (.invokevirtual 378, 3) := dk_182 1 122 (dk_at dksX4_hull_1 0 rfl rfl)
theorem dX4_hull_27 : decode cX4_hull 27 = .ok (.ireturn, 1) := dk_172 (dk_at dksX4_hull_1 3 rfl rfl)
theorem dX4_hull_28 : decode cX4_hull 28 = .ok (.aload_n 0, 1) := dk_42 (dk_at dksX4_hull_1 4 rfl rfl)
theorem dX4_hull_29 : decode cX4_hull 29 = .ok (.aload_n 0, 1) := dk_42 (dk_at dksX4_hull_1 5 rfl rfl)
theorem dX4_hull_30 : decode cX4_hull 30 = .ok (.getfield 27, 3) := dk_180 0 27 (dk_at dksX4_hull_1 6 rfl rfl)
theorem dX4_hull_33 : decode cX4_hull 33 = .ok (.invokevirtual 400, 3) := dk_182 1 144 (dk_at dksX4_hull_1 9 rfl rfl)
theorem dX4_hull_36 : decode cX4_hull 36 = .ok (.aload_n 0, 1) := dk_42 (dk_at dksX4_hull_1 12 rfl rfl)
theorem dX4_hull_37 : decode cX4_hull 37 = .ok (.iload_n 1, 1) := dk_27 (dk_at dksX4_hull_1 13 rfl rfl)
theorem dX4_hull_38 : decode cX4_hull 38 = .ok (.iload_n 2, 1) := dk_28 (dk_at dksX4_hull_1 14 rfl rfl)
theorem dX4_hull_39 : decode cX4_hull 39 = .ok (.invokevirtual 435, 3) := dk_182 1 179 (dk_at dksX4_hull_1 15 rfl rfl)
theorem dX4_hull_42 : decode cX4_hull 42 = .ok (.ireturn, 1) := dk_172 (dk_at dksX4_hull_1 18 rfl rfl)
abbrev cX4_hullTold : ByteArray := prog_40_method_41_code
def yX4_hullTold : MethodName := ⟨RX4, "hullTold", "(II)I"⟩
def dkwX4_hullTold_1 : List UInt8 := [182, 0, 218, 167, 0, 8, 42, 27, 182, 0, 221, 172]
abbrev dktX4_hullTold_1 : List UInt8 := dkwX4_hullTold_1 ++ []
def dkwX4_hullTold_0 : List UInt8 := [42, 27, 182, 0, 214, 28, 154, 0, 10, 42, 180, 0, 202, 167, 0, 20, 28, 4, 160, 0, 10, 42]
abbrev dktX4_hullTold_0 : List UInt8 := dkwX4_hullTold_0 ++ dktX4_hullTold_1
theorem dksX4_hullTold_0 : cX4_hullTold.data.toList.drop 0 = dktX4_hullTold_0 := by decide +kernel
theorem dksX4_hullTold_1 : cX4_hullTold.data.toList.drop 22 = dktX4_hullTold_1 := dk_seg dksX4_hullTold_0 22 rfl rfl
theorem dX4_hullTold_0 : decode cX4_hullTold 0 = .ok (.aload_n 0, 1) := dk_42 (dk_at dksX4_hullTold_0 0 rfl rfl)
theorem dX4_hullTold_1 : decode cX4_hullTold 1 = .ok (.iload_n 1, 1) := dk_27 (dk_at dksX4_hullTold_0 1 rfl rfl)
theorem dX4_hullTold_2 : decode cX4_hullTold 2 = .ok (.invokevirtual 214, 3) := dk_182 0 214 (dk_at dksX4_hullTold_0 2 rfl rfl)
theorem dX4_hullTold_5 : decode cX4_hullTold 5 = .ok (.iload_n 2, 1) := dk_28 (dk_at dksX4_hullTold_0 5 rfl rfl)
theorem dX4_hullTold_6 : decode cX4_hullTold 6 = .ok (.ifCond .ne 10, 3) := dk_154 0 10 (dk_at dksX4_hullTold_0 6 rfl rfl)
theorem dX4_hullTold_9 : decode cX4_hullTold 9 = .ok (.aload_n 0, 1) := dk_42 (dk_at dksX4_hullTold_0 9 rfl rfl)
theorem dX4_hullTold_10 : decode cX4_hullTold 10 = .ok (.getfield 202, 3) := dk_180 0 202 (dk_at dksX4_hullTold_0 10 rfl rfl)
theorem dX4_hullTold_13 : decode cX4_hullTold 13 = .ok (.goto 20, 3) := dk_167 0 20 (dk_at dksX4_hullTold_0 13 rfl rfl)
theorem dX4_hullTold_16 : decode cX4_hullTold 16 = .ok (.iload_n 2, 1) := dk_28 (dk_at dksX4_hullTold_0 16 rfl rfl)
theorem dX4_hullTold_17 : decode cX4_hullTold 17 = .ok (.iconst 1, 1) := dk_4 (dk_at dksX4_hullTold_0 17 rfl rfl)
theorem dX4_hullTold_18 : decode cX4_hullTold 18 = .ok (.if_icmp .ne 10, 3) := dk_160 0 10 (dk_at dksX4_hullTold_0 18 rfl rfl)
theorem dX4_hullTold_21 : decode cX4_hullTold 21 = .ok (.aload_n 0, 1) := dk_42 (dk_at dksX4_hullTold_0 21 rfl rfl)
theorem dX4_hullTold_22 : decode cX4_hullTold 22 = .ok (.invokevirtual 218, 3) := dk_182 0 218 (dk_at dksX4_hullTold_1 0 rfl rfl)
theorem dX4_hullTold_25 : decode cX4_hullTold 25 = .ok (.goto 8, 3) := dk_167 0 8 (dk_at dksX4_hullTold_1 3 rfl rfl)
theorem dX4_hullTold_28 : decode cX4_hullTold 28 = .ok (.aload_n 0, 1) := dk_42 (dk_at dksX4_hullTold_1 6 rfl rfl)
theorem dX4_hullTold_29 : decode cX4_hullTold 29 = .ok (.iload_n 1, 1) := dk_27 (dk_at dksX4_hullTold_1 7 rfl rfl)
theorem dX4_hullTold_30 : decode cX4_hullTold 30 = .ok (.invokevirtual 221, 3) := dk_182 0 221 (dk_at dksX4_hullTold_1 8 rfl rfl)
theorem dX4_hullTold_33 : decode cX4_hullTold 33 = .ok (.ireturn, 1) := dk_172 (dk_at dksX4_hullTold_1 11 rfl rfl)
abbrev cX4_wrap : ByteArray := prog_40_method_36_code
def yX4_wrap : MethodName := ⟨RX4, "wrap", "(I)V"⟩
def dkwX4_wrap_4 : List UInt8 := [182, 0, 208, 153, 255, 218, 177]
abbrev dktX4_wrap_4 : List UInt8 := dkwX4_wrap_4 ++ []
def dkwX4_wrap_3 : List UInt8 := [180, 0, 202, 4, 96, 181, 0, 202, 42, 27, 29, 182, 0, 205, 62, 29, 2, 159, 0, 12, 42, 29, 28]
abbrev dktX4_wrap_3 : List UInt8 := dkwX4_wrap_3 ++ dktX4_wrap_4
def dkwX4_wrap_2 : List UInt8 := [167, 255, 219, 42, 3, 181, 0, 202, 28, 62, 42, 180, 0, 47, 42, 180, 0, 202, 29, 79, 42, 89]
abbrev dktX4_wrap_2 : List UInt8 := dkwX4_wrap_2 ++ dktX4_wrap_3
def dkwX4_wrap_1 : List UInt8 := [27, 29, 182, 0, 95, 28, 182, 0, 199, 153, 0, 10, 42, 27, 29, 182, 0, 95, 61, 132, 3, 1]
abbrev dktX4_wrap_1 : List UInt8 := dkwX4_wrap_1 ++ dktX4_wrap_2
def dkwX4_wrap_0 : List UInt8 := [42, 27, 3, 182, 0, 95, 61, 4, 62, 29, 42, 180, 0, 41, 180, 0, 82, 27, 46, 162, 0, 30, 42, 42]
abbrev dktX4_wrap_0 : List UInt8 := dkwX4_wrap_0 ++ dktX4_wrap_1
theorem dksX4_wrap_0 : cX4_wrap.data.toList.drop 0 = dktX4_wrap_0 := by decide +kernel
theorem dksX4_wrap_1 : cX4_wrap.data.toList.drop 24 = dktX4_wrap_1 := dk_seg dksX4_wrap_0 24 rfl rfl
theorem dksX4_wrap_2 : cX4_wrap.data.toList.drop 46 = dktX4_wrap_2 := dk_seg dksX4_wrap_1 22 rfl rfl
theorem dksX4_wrap_3 : cX4_wrap.data.toList.drop 68 = dktX4_wrap_3 := dk_seg dksX4_wrap_2 22 rfl rfl
theorem dksX4_wrap_4 : cX4_wrap.data.toList.drop 91 = dktX4_wrap_4 := dk_seg dksX4_wrap_3 23 rfl rfl
theorem dX4_wrap_0 : decode cX4_wrap 0 = .ok (.aload_n 0, 1) := dk_42 (dk_at dksX4_wrap_0 0 rfl rfl)
theorem dX4_wrap_1 : decode cX4_wrap 1 = .ok (.iload_n 1, 1) := dk_27 (dk_at dksX4_wrap_0 1 rfl rfl)
theorem dX4_wrap_2 : decode cX4_wrap 2 = .ok (.iconst 0, 1) := dk_3 (dk_at dksX4_wrap_0 2 rfl rfl)
theorem dX4_wrap_3 : decode cX4_wrap 3 = .ok (.invokevirtual 95, 3) := dk_182 0 95 (dk_at dksX4_wrap_0 3 rfl rfl)
theorem dX4_wrap_6 : decode cX4_wrap 6 = .ok (.istore_n 2, 1) := dk_61 (dk_at dksX4_wrap_0 6 rfl rfl)
theorem dX4_wrap_7 : decode cX4_wrap 7 = .ok (.iconst 1, 1) := dk_4 (dk_at dksX4_wrap_0 7 rfl rfl)
theorem dX4_wrap_8 : decode cX4_wrap 8 = .ok (.istore_n 3, 1) := dk_62 (dk_at dksX4_wrap_0 8 rfl rfl)
theorem dX4_wrap_9 : decode cX4_wrap 9 = .ok (.iload_n 3, 1) := dk_29 (dk_at dksX4_wrap_0 9 rfl rfl)
theorem dX4_wrap_10 : decode cX4_wrap 10 = .ok (.aload_n 0, 1) := dk_42 (dk_at dksX4_wrap_0 10 rfl rfl)
theorem dX4_wrap_11 : decode cX4_wrap 11 = .ok (.getfield 41, 3) := dk_180 0 41 (dk_at dksX4_wrap_0 11 rfl rfl)
theorem dX4_wrap_14 : decode cX4_wrap 14 = .ok (.getfield 82, 3) := dk_180 0 82 (dk_at dksX4_wrap_0 14 rfl rfl)
theorem dX4_wrap_17 : decode cX4_wrap 17 = .ok (.iload_n 1, 1) := dk_27 (dk_at dksX4_wrap_0 17 rfl rfl)
theorem dX4_wrap_18 : decode cX4_wrap 18 = .ok (.iaload, 1) := dk_46 (dk_at dksX4_wrap_0 18 rfl rfl)
theorem dX4_wrap_19 : decode cX4_wrap 19 = .ok (.if_icmp .ge 30, 3) := dk_162 0 30 (dk_at dksX4_wrap_0 19 rfl rfl)
theorem dX4_wrap_22 : decode cX4_wrap 22 = .ok (.aload_n 0, 1) := dk_42 (dk_at dksX4_wrap_0 22 rfl rfl)
theorem dX4_wrap_23 : decode cX4_wrap 23 = .ok (.aload_n 0, 1) := dk_42 (dk_at dksX4_wrap_0 23 rfl rfl)
theorem dX4_wrap_24 : decode cX4_wrap 24 = .ok (.iload_n 1, 1) := dk_27 (dk_at dksX4_wrap_1 0 rfl rfl)
theorem dX4_wrap_25 : decode cX4_wrap 25 = .ok (.iload_n 3, 1) := dk_29 (dk_at dksX4_wrap_1 1 rfl rfl)
theorem dX4_wrap_26 : decode cX4_wrap 26 = .ok (.invokevirtual 95, 3) := dk_182 0 95 (dk_at dksX4_wrap_1 2 rfl rfl)
theorem dX4_wrap_29 : decode cX4_wrap 29 = .ok (.iload_n 2, 1) := dk_28 (dk_at dksX4_wrap_1 5 rfl rfl)
theorem dX4_wrap_30 : decode cX4_wrap 30 = .ok (.invokevirtual 199, 3) := dk_182 0 199 (dk_at dksX4_wrap_1 6 rfl rfl)
theorem dX4_wrap_33 : decode cX4_wrap 33 = .ok (.ifCond .eq 10, 3) := dk_153 0 10 (dk_at dksX4_wrap_1 9 rfl rfl)
theorem dX4_wrap_36 : decode cX4_wrap 36 = .ok (.aload_n 0, 1) := dk_42 (dk_at dksX4_wrap_1 12 rfl rfl)
theorem dX4_wrap_37 : decode cX4_wrap 37 = .ok (.iload_n 1, 1) := dk_27 (dk_at dksX4_wrap_1 13 rfl rfl)
theorem dX4_wrap_38 : decode cX4_wrap 38 = .ok (.iload_n 3, 1) := dk_29 (dk_at dksX4_wrap_1 14 rfl rfl)
theorem dX4_wrap_39 : decode cX4_wrap 39 = .ok (.invokevirtual 95, 3) := dk_182 0 95 (dk_at dksX4_wrap_1 15 rfl rfl)
theorem dX4_wrap_42 : decode cX4_wrap 42 = .ok (.istore_n 2, 1) := dk_61 (dk_at dksX4_wrap_1 18 rfl rfl)
theorem dX4_wrap_43 : decode cX4_wrap 43 = .ok (.iinc 3 1, 3) := dk_132 3 1 (dk_at dksX4_wrap_1 19 rfl rfl)
theorem dX4_wrap_46 : decode cX4_wrap 46 = .ok (.goto (-37), 3) := dk_167 255 219 (dk_at dksX4_wrap_2 0 rfl rfl)
theorem dX4_wrap_49 : decode cX4_wrap 49 = .ok (.aload_n 0, 1) := dk_42 (dk_at dksX4_wrap_2 3 rfl rfl)
theorem dX4_wrap_50 : decode cX4_wrap 50 = .ok (.iconst 0, 1) := dk_3 (dk_at dksX4_wrap_2 4 rfl rfl)
theorem dX4_wrap_51 : decode cX4_wrap 51 = .ok (.putfield 202, 3) := dk_181 0 202 (dk_at dksX4_wrap_2 5 rfl rfl)
theorem dX4_wrap_54 : decode cX4_wrap 54 = .ok (.iload_n 2, 1) := dk_28 (dk_at dksX4_wrap_2 8 rfl rfl)
theorem dX4_wrap_55 : decode cX4_wrap 55 = .ok (.istore_n 3, 1) := dk_62 (dk_at dksX4_wrap_2 9 rfl rfl)
theorem dX4_wrap_56 : decode cX4_wrap 56 = .ok (.aload_n 0, 1) := dk_42 (dk_at dksX4_wrap_2 10 rfl rfl)
theorem dX4_wrap_57 : decode cX4_wrap 57 = .ok (.getfield 47, 3) := dk_180 0 47 (dk_at dksX4_wrap_2 11 rfl rfl)
theorem dX4_wrap_60 : decode cX4_wrap 60 = .ok (.aload_n 0, 1) := dk_42 (dk_at dksX4_wrap_2 14 rfl rfl)
theorem dX4_wrap_61 : decode cX4_wrap 61 = .ok (.getfield 202, 3) := dk_180 0 202 (dk_at dksX4_wrap_2 15 rfl rfl)
theorem dX4_wrap_64 : decode cX4_wrap 64 = .ok (.iload_n 3, 1) := dk_29 (dk_at dksX4_wrap_2 18 rfl rfl)
theorem dX4_wrap_65 : decode cX4_wrap 65 = .ok (.iastore, 1) := dk_79 (dk_at dksX4_wrap_2 19 rfl rfl)
theorem dX4_wrap_66 : decode cX4_wrap 66 = .ok (.aload_n 0, 1) := dk_42 (dk_at dksX4_wrap_2 20 rfl rfl)
theorem dX4_wrap_67 : decode cX4_wrap 67 = .ok (.dup, 1) := dk_89 (dk_at dksX4_wrap_2 21 rfl rfl)
theorem dX4_wrap_68 : decode cX4_wrap 68 = .ok (.getfield 202, 3) := dk_180 0 202 (dk_at dksX4_wrap_3 0 rfl rfl)
theorem dX4_wrap_71 : decode cX4_wrap 71 = .ok (.iconst 1, 1) := dk_4 (dk_at dksX4_wrap_3 3 rfl rfl)
theorem dX4_wrap_72 : decode cX4_wrap 72 = .ok (.iadd, 1) := dk_96 (dk_at dksX4_wrap_3 4 rfl rfl)
theorem dX4_wrap_73 : decode cX4_wrap 73 = .ok (.putfield 202, 3) := dk_181 0 202 (dk_at dksX4_wrap_3 5 rfl rfl)
theorem dX4_wrap_76 : decode cX4_wrap 76 = .ok (.aload_n 0, 1) := dk_42 (dk_at dksX4_wrap_3 8 rfl rfl)
theorem dX4_wrap_77 : decode cX4_wrap 77 = .ok (.iload_n 1, 1) := dk_27 (dk_at dksX4_wrap_3 9 rfl rfl)
theorem dX4_wrap_78 : decode cX4_wrap 78 = .ok (.iload_n 3, 1) := dk_29 (dk_at dksX4_wrap_3 10 rfl rfl)
theorem dX4_wrap_79 : decode cX4_wrap 79 = .ok (.invokevirtual 205, 3) := dk_182 0 205 (dk_at dksX4_wrap_3 11 rfl rfl)
theorem dX4_wrap_82 : decode cX4_wrap 82 = .ok (.istore_n 3, 1) := dk_62 (dk_at dksX4_wrap_3 14 rfl rfl)
theorem dX4_wrap_83 : decode cX4_wrap 83 = .ok (.iload_n 3, 1) := dk_29 (dk_at dksX4_wrap_3 15 rfl rfl)
theorem dX4_wrap_84 : decode cX4_wrap 84 = .ok (.iconst (-1), 1) := dk_2 (dk_at dksX4_wrap_3 16 rfl rfl)
theorem dX4_wrap_85 : decode cX4_wrap 85 = .ok (.if_icmp .eq 12, 3) := dk_159 0 12 (dk_at dksX4_wrap_3 17 rfl rfl)
theorem dX4_wrap_88 : decode cX4_wrap 88 = .ok (.aload_n 0, 1) := dk_42 (dk_at dksX4_wrap_3 20 rfl rfl)
theorem dX4_wrap_89 : decode cX4_wrap 89 = .ok (.iload_n 3, 1) := dk_29 (dk_at dksX4_wrap_3 21 rfl rfl)
theorem dX4_wrap_90 : decode cX4_wrap 90 = .ok (.iload_n 2, 1) := dk_28 (dk_at dksX4_wrap_3 22 rfl rfl)
theorem dX4_wrap_91 : decode cX4_wrap 91 = .ok (.invokevirtual 208, 3) := dk_182 0 208 (dk_at dksX4_wrap_4 0 rfl rfl)
theorem dX4_wrap_94 : decode cX4_wrap 94 = .ok (.ifCond .eq (-38), 3) := dk_153 255 218 (dk_at dksX4_wrap_4 3 rfl rfl)
theorem dX4_wrap_97 : decode cX4_wrap 97 = .ok (.return_, 1) := dk_177 (dk_at dksX4_wrap_4 6 rfl rfl)
abbrev cX4_isEarlier : ByteArray := prog_40_method_34_code
def yX4_isEarlier : MethodName := ⟨RX4, "isEarlier", "(II)Z"⟩
def dkwX4_isEarlier_4 : List UInt8 := [172]
abbrev dktX4_isEarlier_4 : List UInt8 := dkwX4_isEarlier_4 ++ []
def dkwX4_isEarlier_3 : List UInt8 := [27, 46, 42, 180, 0, 44, 180, 0, 88, 28, 46, 160, 0, 12, 27, 28, 162, 0, 7, 4, 167, 0, 4, 3]
abbrev dktX4_isEarlier_3 : List UInt8 := dkwX4_isEarlier_3 ++ dktX4_isEarlier_4
def dkwX4_isEarlier_2 : List UInt8 := [180, 0, 88, 27, 46, 42, 180, 0, 44, 180, 0, 88, 28, 46, 161, 0, 29, 42, 180, 0, 44, 180, 0, 88]
abbrev dktX4_isEarlier_2 : List UInt8 := dkwX4_isEarlier_2 ++ dktX4_isEarlier_3
def dkwX4_isEarlier_1 : List UInt8 := [180, 0, 44, 180, 0, 85, 27, 46, 42, 180, 0, 44, 180, 0, 85, 28, 46, 160, 0, 54, 42, 180, 0, 44]
abbrev dktX4_isEarlier_1 : List UInt8 := dkwX4_isEarlier_1 ++ dktX4_isEarlier_2
def dkwX4_isEarlier_0 : List UInt8 := [42, 180, 0, 44, 180, 0, 85, 27, 46, 42, 180, 0, 44, 180, 0, 85, 28, 46, 161, 0, 71, 42]
abbrev dktX4_isEarlier_0 : List UInt8 := dkwX4_isEarlier_0 ++ dktX4_isEarlier_1
theorem dksX4_isEarlier_0 : cX4_isEarlier.data.toList.drop 0 = dktX4_isEarlier_0 := by decide +kernel
theorem dksX4_isEarlier_1 : cX4_isEarlier.data.toList.drop 22 = dktX4_isEarlier_1 := dk_seg dksX4_isEarlier_0 22 rfl rfl
theorem dksX4_isEarlier_2 : cX4_isEarlier.data.toList.drop 46 = dktX4_isEarlier_2 := dk_seg dksX4_isEarlier_1 24 rfl rfl
theorem dksX4_isEarlier_3 : cX4_isEarlier.data.toList.drop 70 = dktX4_isEarlier_3 := dk_seg dksX4_isEarlier_2 24 rfl rfl
theorem dksX4_isEarlier_4 : cX4_isEarlier.data.toList.drop 94 = dktX4_isEarlier_4 := dk_seg dksX4_isEarlier_3 24 rfl rfl
theorem dX4_isEarlier_0 : decode cX4_isEarlier 0 = .ok (.aload_n 0, 1) := dk_42 (dk_at dksX4_isEarlier_0 0 rfl rfl)
theorem dX4_isEarlier_1 : decode cX4_isEarlier 1 = .ok (.getfield 44, 3) := dk_180 0 44 (dk_at dksX4_isEarlier_0 1 rfl rfl)
theorem dX4_isEarlier_4 : decode cX4_isEarlier 4 = .ok (.getfield 85, 3) := dk_180 0 85 (dk_at dksX4_isEarlier_0 4 rfl rfl)
theorem dX4_isEarlier_7 : decode cX4_isEarlier 7 = .ok (.iload_n 1, 1) := dk_27 (dk_at dksX4_isEarlier_0 7 rfl rfl)
theorem dX4_isEarlier_8 : decode cX4_isEarlier 8 = .ok (.iaload, 1) := dk_46 (dk_at dksX4_isEarlier_0 8 rfl rfl)
theorem dX4_isEarlier_9 : decode cX4_isEarlier 9 = .ok (.aload_n 0, 1) := dk_42 (dk_at dksX4_isEarlier_0 9 rfl rfl)
theorem dX4_isEarlier_10 : decode cX4_isEarlier 10 = .ok (.getfield 44, 3) := dk_180 0 44 (dk_at dksX4_isEarlier_0 10 rfl rfl)
theorem dX4_isEarlier_13 : decode cX4_isEarlier 13 = .ok (.getfield 85, 3) := dk_180 0 85 (dk_at dksX4_isEarlier_0 13 rfl rfl)
theorem dX4_isEarlier_16 : decode cX4_isEarlier 16 = .ok (.iload_n 2, 1) := dk_28 (dk_at dksX4_isEarlier_0 16 rfl rfl)
theorem dX4_isEarlier_17 : decode cX4_isEarlier 17 = .ok (.iaload, 1) := dk_46 (dk_at dksX4_isEarlier_0 17 rfl rfl)
theorem dX4_isEarlier_18 : decode cX4_isEarlier 18 = .ok (.if_icmp .lt 71, 3) := dk_161 0 71 (dk_at dksX4_isEarlier_0 18 rfl rfl)
theorem dX4_isEarlier_21 : decode cX4_isEarlier 21 = .ok (.aload_n 0, 1) := dk_42 (dk_at dksX4_isEarlier_0 21 rfl rfl)
theorem dX4_isEarlier_22 : decode cX4_isEarlier 22 = .ok (.getfield 44, 3) := dk_180 0 44 (dk_at dksX4_isEarlier_1 0 rfl rfl)
theorem dX4_isEarlier_25 : decode cX4_isEarlier 25 = .ok (.getfield 85, 3) := dk_180 0 85 (dk_at dksX4_isEarlier_1 3 rfl rfl)
theorem dX4_isEarlier_28 : decode cX4_isEarlier 28 = .ok (.iload_n 1, 1) := dk_27 (dk_at dksX4_isEarlier_1 6 rfl rfl)
theorem dX4_isEarlier_29 : decode cX4_isEarlier 29 = .ok (.iaload, 1) := dk_46 (dk_at dksX4_isEarlier_1 7 rfl rfl)
theorem dX4_isEarlier_30 : decode cX4_isEarlier 30 = .ok (.aload_n 0, 1) := dk_42 (dk_at dksX4_isEarlier_1 8 rfl rfl)
theorem dX4_isEarlier_31 : decode cX4_isEarlier 31 = .ok (.getfield 44, 3) := dk_180 0 44 (dk_at dksX4_isEarlier_1 9 rfl rfl)
theorem dX4_isEarlier_34 : decode cX4_isEarlier 34 = .ok (.getfield 85, 3) := dk_180 0 85 (dk_at dksX4_isEarlier_1 12 rfl rfl)
theorem dX4_isEarlier_37 : decode cX4_isEarlier 37 = .ok (.iload_n 2, 1) := dk_28 (dk_at dksX4_isEarlier_1 15 rfl rfl)
theorem dX4_isEarlier_38 : decode cX4_isEarlier 38 = .ok (.iaload, 1) := dk_46 (dk_at dksX4_isEarlier_1 16 rfl rfl)
theorem dX4_isEarlier_39 : decode cX4_isEarlier 39 = .ok (.if_icmp .ne 54, 3) := dk_160 0 54 (dk_at dksX4_isEarlier_1 17 rfl rfl)
theorem dX4_isEarlier_42 : decode cX4_isEarlier 42 = .ok (.aload_n 0, 1) := dk_42 (dk_at dksX4_isEarlier_1 20 rfl rfl)
theorem dX4_isEarlier_43 : decode cX4_isEarlier 43 = .ok (.getfield 44, 3) := dk_180 0 44 (dk_at dksX4_isEarlier_1 21 rfl rfl)
theorem dX4_isEarlier_46 : decode cX4_isEarlier 46 = .ok (.getfield 88, 3) := dk_180 0 88 (dk_at dksX4_isEarlier_2 0 rfl rfl)
theorem dX4_isEarlier_49 : decode cX4_isEarlier 49 = .ok (.iload_n 1, 1) := dk_27 (dk_at dksX4_isEarlier_2 3 rfl rfl)
theorem dX4_isEarlier_50 : decode cX4_isEarlier 50 = .ok (.iaload, 1) := dk_46 (dk_at dksX4_isEarlier_2 4 rfl rfl)
theorem dX4_isEarlier_51 : decode cX4_isEarlier 51 = .ok (.aload_n 0, 1) := dk_42 (dk_at dksX4_isEarlier_2 5 rfl rfl)
theorem dX4_isEarlier_52 : decode cX4_isEarlier 52 = .ok (.getfield 44, 3) := dk_180 0 44 (dk_at dksX4_isEarlier_2 6 rfl rfl)
theorem dX4_isEarlier_55 : decode cX4_isEarlier 55 = .ok (.getfield 88, 3) := dk_180 0 88 (dk_at dksX4_isEarlier_2 9 rfl rfl)
theorem dX4_isEarlier_58 : decode cX4_isEarlier 58 = .ok (.iload_n 2, 1) := dk_28 (dk_at dksX4_isEarlier_2 12 rfl rfl)
theorem dX4_isEarlier_59 : decode cX4_isEarlier 59 = .ok (.iaload, 1) := dk_46 (dk_at dksX4_isEarlier_2 13 rfl rfl)
theorem dX4_isEarlier_60 : decode cX4_isEarlier 60 = .ok (.if_icmp .lt 29, 3) := dk_161 0 29 (dk_at dksX4_isEarlier_2 14 rfl rfl)
theorem dX4_isEarlier_63 : decode cX4_isEarlier 63 = .ok (.aload_n 0, 1) := dk_42 (dk_at dksX4_isEarlier_2 17 rfl rfl)
theorem dX4_isEarlier_64 : decode cX4_isEarlier 64 = .ok (.getfield 44, 3) := dk_180 0 44 (dk_at dksX4_isEarlier_2 18 rfl rfl)
theorem dX4_isEarlier_67 : decode cX4_isEarlier 67 = .ok (.getfield 88, 3) := dk_180 0 88 (dk_at dksX4_isEarlier_2 21 rfl rfl)
theorem dX4_isEarlier_70 : decode cX4_isEarlier 70 = .ok (.iload_n 1, 1) := dk_27 (dk_at dksX4_isEarlier_3 0 rfl rfl)
theorem dX4_isEarlier_71 : decode cX4_isEarlier 71 = .ok (.iaload, 1) := dk_46 (dk_at dksX4_isEarlier_3 1 rfl rfl)
theorem dX4_isEarlier_72 : decode cX4_isEarlier 72 = .ok (.aload_n 0, 1) := dk_42 (dk_at dksX4_isEarlier_3 2 rfl rfl)
theorem dX4_isEarlier_73 : decode cX4_isEarlier 73 = .ok (.getfield 44, 3) := dk_180 0 44 (dk_at dksX4_isEarlier_3 3 rfl rfl)
theorem dX4_isEarlier_76 : decode cX4_isEarlier 76 = .ok (.getfield 88, 3) := dk_180 0 88 (dk_at dksX4_isEarlier_3 6 rfl rfl)
theorem dX4_isEarlier_79 : decode cX4_isEarlier 79 = .ok (.iload_n 2, 1) := dk_28 (dk_at dksX4_isEarlier_3 9 rfl rfl)
theorem dX4_isEarlier_80 : decode cX4_isEarlier 80 = .ok (.iaload, 1) := dk_46 (dk_at dksX4_isEarlier_3 10 rfl rfl)
theorem dX4_isEarlier_81 : decode cX4_isEarlier 81 = .ok (.if_icmp .ne 12, 3) := dk_160 0 12 (dk_at dksX4_isEarlier_3 11 rfl rfl)
theorem dX4_isEarlier_84 : decode cX4_isEarlier 84 = .ok (.iload_n 1, 1) := dk_27 (dk_at dksX4_isEarlier_3 14 rfl rfl)
theorem dX4_isEarlier_85 : decode cX4_isEarlier 85 = .ok (.iload_n 2, 1) := dk_28 (dk_at dksX4_isEarlier_3 15 rfl rfl)
theorem dX4_isEarlier_86 : decode cX4_isEarlier 86 = .ok (.if_icmp .ge 7, 3) := dk_162 0 7 (dk_at dksX4_isEarlier_3 16 rfl rfl)
theorem dX4_isEarlier_89 : decode cX4_isEarlier 89 = .ok (.iconst 1, 1) := dk_4 (dk_at dksX4_isEarlier_3 19 rfl rfl)
theorem dX4_isEarlier_90 : decode cX4_isEarlier 90 = .ok (.goto 4, 3) := dk_167 0 4 (dk_at dksX4_isEarlier_3 20 rfl rfl)
theorem dX4_isEarlier_93 : decode cX4_isEarlier 93 = .ok (.iconst 0, 1) := dk_3 (dk_at dksX4_isEarlier_3 23 rfl rfl)
theorem dX4_isEarlier_94 : decode cX4_isEarlier 94 = .ok (.ireturn, 1) := dk_172 (dk_at dksX4_isEarlier_4 0 rfl rfl)
abbrev cX4_nextOf : ByteArray := prog_40_method_37_code
def yX4_nextOf : MethodName := ⟨RX4, "nextOf", "(II)I"⟩
def dkwX4_nextOf_5 : List UInt8 := [155, 0, 13, 21, 7, 154, 0, 8, 21, 8, 153, 0, 6, 21, 5, 62, 132, 4, 1, 167, 255, 127, 29, 172]
abbrev dktX4_nextOf_5 : List UInt8 := dkwX4_nextOf_5 ++ []
def dkwX4_nextOf_4 : List UInt8 := [29, 182, 0, 208, 153, 0, 13, 21, 5, 29, 162, 0, 7, 4, 167, 0, 4, 3, 54, 8, 21, 6]
abbrev dktX4_nextOf_4 : List UInt8 := dkwX4_nextOf_4 ++ dktX4_nextOf_5
def dkwX4_nextOf_3 : List UInt8 := [21, 5, 182, 0, 211, 42, 28, 29, 182, 0, 211, 164, 0, 7, 4, 167, 0, 4, 3, 54, 7, 42, 21, 5]
abbrev dktX4_nextOf_3 : List UInt8 := dkwX4_nextOf_3 ++ dktX4_nextOf_4
def dkwX4_nextOf_2 : List UInt8 := [21, 5, 62, 167, 0, 82, 42, 28, 29, 21, 5, 182, 0, 106, 54, 6, 21, 6, 154, 0, 23, 42, 28]
abbrev dktX4_nextOf_2 : List UInt8 := dkwX4_nextOf_2 ++ dktX4_nextOf_3
def dkwX4_nextOf_1 : List UInt8 := [182, 0, 95, 54, 5, 42, 21, 5, 28, 182, 0, 208, 153, 0, 6, 167, 0, 93, 29, 2, 160, 0, 9]
abbrev dktX4_nextOf_1 : List UInt8 := dkwX4_nextOf_1 ++ dktX4_nextOf_2
def dkwX4_nextOf_0 : List UInt8 := [2, 62, 3, 54, 4, 21, 4, 42, 180, 0, 41, 180, 0, 82, 27, 46, 162, 0, 121, 42, 27, 21, 4]
abbrev dktX4_nextOf_0 : List UInt8 := dkwX4_nextOf_0 ++ dktX4_nextOf_1
theorem dksX4_nextOf_0 : cX4_nextOf.data.toList.drop 0 = dktX4_nextOf_0 := by decide +kernel
theorem dksX4_nextOf_1 : cX4_nextOf.data.toList.drop 23 = dktX4_nextOf_1 := dk_seg dksX4_nextOf_0 23 rfl rfl
theorem dksX4_nextOf_2 : cX4_nextOf.data.toList.drop 46 = dktX4_nextOf_2 := dk_seg dksX4_nextOf_1 23 rfl rfl
theorem dksX4_nextOf_3 : cX4_nextOf.data.toList.drop 69 = dktX4_nextOf_3 := dk_seg dksX4_nextOf_2 23 rfl rfl
theorem dksX4_nextOf_4 : cX4_nextOf.data.toList.drop 93 = dktX4_nextOf_4 := dk_seg dksX4_nextOf_3 24 rfl rfl
theorem dksX4_nextOf_5 : cX4_nextOf.data.toList.drop 115 = dktX4_nextOf_5 := dk_seg dksX4_nextOf_4 22 rfl rfl
theorem dX4_nextOf_0 : decode cX4_nextOf 0 = .ok (.iconst (-1), 1) := dk_2 (dk_at dksX4_nextOf_0 0 rfl rfl)
theorem dX4_nextOf_1 : decode cX4_nextOf 1 = .ok (.istore_n 3, 1) := dk_62 (dk_at dksX4_nextOf_0 1 rfl rfl)
theorem dX4_nextOf_2 : decode cX4_nextOf 2 = .ok (.iconst 0, 1) := dk_3 (dk_at dksX4_nextOf_0 2 rfl rfl)
theorem dX4_nextOf_3 : decode cX4_nextOf 3 = .ok (.istore 4, 2) := dk_54 4 (dk_at dksX4_nextOf_0 3 rfl rfl)
theorem dX4_nextOf_5 : decode cX4_nextOf 5 = .ok (.iload 4, 2) := dk_21 4 (dk_at dksX4_nextOf_0 5 rfl rfl)
theorem dX4_nextOf_7 : decode cX4_nextOf 7 = .ok (.aload_n 0, 1) := dk_42 (dk_at dksX4_nextOf_0 7 rfl rfl)
theorem dX4_nextOf_8 : decode cX4_nextOf 8 = .ok (.getfield 41, 3) := dk_180 0 41 (dk_at dksX4_nextOf_0 8 rfl rfl)
theorem dX4_nextOf_11 : decode cX4_nextOf 11 = .ok (.getfield 82, 3) := dk_180 0 82 (dk_at dksX4_nextOf_0 11 rfl rfl)
theorem dX4_nextOf_14 : decode cX4_nextOf 14 = .ok (.iload_n 1, 1) := dk_27 (dk_at dksX4_nextOf_0 14 rfl rfl)
theorem dX4_nextOf_15 : decode cX4_nextOf 15 = .ok (.iaload, 1) := dk_46 (dk_at dksX4_nextOf_0 15 rfl rfl)
theorem dX4_nextOf_16 : decode cX4_nextOf 16 = .ok (.if_icmp .ge 121, 3) := dk_162 0 121 (dk_at dksX4_nextOf_0 16 rfl rfl)
theorem dX4_nextOf_19 : decode cX4_nextOf 19 = .ok (.aload_n 0, 1) := dk_42 (dk_at dksX4_nextOf_0 19 rfl rfl)
theorem dX4_nextOf_20 : decode cX4_nextOf 20 = .ok (.iload_n 1, 1) := dk_27 (dk_at dksX4_nextOf_0 20 rfl rfl)
theorem dX4_nextOf_21 : decode cX4_nextOf 21 = .ok (.iload 4, 2) := dk_21 4 (dk_at dksX4_nextOf_0 21 rfl rfl)
theorem dX4_nextOf_23 : decode cX4_nextOf 23 = .ok (.invokevirtual 95, 3) := dk_182 0 95 (dk_at dksX4_nextOf_1 0 rfl rfl)
theorem dX4_nextOf_26 : decode cX4_nextOf 26 = .ok (.istore 5, 2) := dk_54 5 (dk_at dksX4_nextOf_1 3 rfl rfl)
theorem dX4_nextOf_28 : decode cX4_nextOf 28 = .ok (.aload_n 0, 1) := dk_42 (dk_at dksX4_nextOf_1 5 rfl rfl)
theorem dX4_nextOf_29 : decode cX4_nextOf 29 = .ok (.iload 5, 2) := dk_21 5 (dk_at dksX4_nextOf_1 6 rfl rfl)
theorem dX4_nextOf_31 : decode cX4_nextOf 31 = .ok (.iload_n 2, 1) := dk_28 (dk_at dksX4_nextOf_1 8 rfl rfl)
theorem dX4_nextOf_32 : decode cX4_nextOf 32 = .ok (.invokevirtual 208, 3) := dk_182 0 208 (dk_at dksX4_nextOf_1 9 rfl rfl)
theorem dX4_nextOf_35 : decode cX4_nextOf 35 = .ok (.ifCond .eq 6, 3) := dk_153 0 6 (dk_at dksX4_nextOf_1 12 rfl rfl)
theorem dX4_nextOf_38 : decode cX4_nextOf 38 = .ok (.goto 93, 3) := dk_167 0 93 (dk_at dksX4_nextOf_1 15 rfl rfl)
theorem dX4_nextOf_41 : decode cX4_nextOf 41 = .ok (.iload_n 3, 1) := dk_29 (dk_at dksX4_nextOf_1 18 rfl rfl)
theorem dX4_nextOf_42 : decode cX4_nextOf 42 = .ok (.iconst (-1), 1) := dk_2 (dk_at dksX4_nextOf_1 19 rfl rfl)
theorem dX4_nextOf_43 : decode cX4_nextOf 43 = .ok (.if_icmp .ne 9, 3) := dk_160 0 9 (dk_at dksX4_nextOf_1 20 rfl rfl)
theorem dX4_nextOf_46 : decode cX4_nextOf 46 = .ok (.iload 5, 2) := dk_21 5 (dk_at dksX4_nextOf_2 0 rfl rfl)
theorem dX4_nextOf_48 : decode cX4_nextOf 48 = .ok (.istore_n 3, 1) := dk_62 (dk_at dksX4_nextOf_2 2 rfl rfl)
theorem dX4_nextOf_49 : decode cX4_nextOf 49 = .ok (.goto 82, 3) := dk_167 0 82 (dk_at dksX4_nextOf_2 3 rfl rfl)
theorem dX4_nextOf_52 : decode cX4_nextOf 52 = .ok (.aload_n 0, 1) := dk_42 (dk_at dksX4_nextOf_2 6 rfl rfl)
theorem dX4_nextOf_53 : decode cX4_nextOf 53 = .ok (.iload_n 2, 1) := dk_28 (dk_at dksX4_nextOf_2 7 rfl rfl)
theorem dX4_nextOf_54 : decode cX4_nextOf 54 = .ok (.iload_n 3, 1) := dk_29 (dk_at dksX4_nextOf_2 8 rfl rfl)
theorem dX4_nextOf_55 : decode cX4_nextOf 55 = .ok (.iload 5, 2) := dk_21 5 (dk_at dksX4_nextOf_2 9 rfl rfl)
theorem dX4_nextOf_57 : decode cX4_nextOf 57 = .ok (.invokevirtual 106, 3) := dk_182 0 106 (dk_at dksX4_nextOf_2 11 rfl rfl)
theorem dX4_nextOf_60 : decode cX4_nextOf 60 = .ok (.istore 6, 2) := dk_54 6 (dk_at dksX4_nextOf_2 14 rfl rfl)
theorem dX4_nextOf_62 : decode cX4_nextOf 62 = .ok (.iload 6, 2) := dk_21 6 (dk_at dksX4_nextOf_2 16 rfl rfl)
theorem dX4_nextOf_64 : decode cX4_nextOf 64 = .ok (.ifCond .ne 23, 3) := dk_154 0 23 (dk_at dksX4_nextOf_2 18 rfl rfl)
theorem dX4_nextOf_67 : decode cX4_nextOf 67 = .ok (.aload_n 0, 1) := dk_42 (dk_at dksX4_nextOf_2 21 rfl rfl)
theorem dX4_nextOf_68 : decode cX4_nextOf 68 = .ok (.iload_n 2, 1) := dk_28 (dk_at dksX4_nextOf_2 22 rfl rfl)
theorem dX4_nextOf_69 : decode cX4_nextOf 69 = .ok (.iload 5, 2) := dk_21 5 (dk_at dksX4_nextOf_3 0 rfl rfl)
theorem dX4_nextOf_71 : decode cX4_nextOf 71 = .ok (.invokevirtual 211, 3) := dk_182 0 211 (dk_at dksX4_nextOf_3 2 rfl rfl)
theorem dX4_nextOf_74 : decode cX4_nextOf 74 = .ok (.aload_n 0, 1) := dk_42 (dk_at dksX4_nextOf_3 5 rfl rfl)
theorem dX4_nextOf_75 : decode cX4_nextOf 75 = .ok (.iload_n 2, 1) := dk_28 (dk_at dksX4_nextOf_3 6 rfl rfl)
theorem dX4_nextOf_76 : decode cX4_nextOf 76 = .ok (.iload_n 3, 1) := dk_29 (dk_at dksX4_nextOf_3 7 rfl rfl)
theorem dX4_nextOf_77 : decode cX4_nextOf 77 = .ok (.invokevirtual 211, 3) := dk_182 0 211 (dk_at dksX4_nextOf_3 8 rfl rfl)
theorem dX4_nextOf_80 : decode cX4_nextOf 80 = .ok (.if_icmp .le 7, 3) := dk_164 0 7 (dk_at dksX4_nextOf_3 11 rfl rfl)
theorem dX4_nextOf_83 : decode cX4_nextOf 83 = .ok (.iconst 1, 1) := dk_4 (dk_at dksX4_nextOf_3 14 rfl rfl)
theorem dX4_nextOf_84 : decode cX4_nextOf 84 = .ok (.goto 4, 3) := dk_167 0 4 (dk_at dksX4_nextOf_3 15 rfl rfl)
theorem dX4_nextOf_87 : decode cX4_nextOf 87 = .ok (.iconst 0, 1) := dk_3 (dk_at dksX4_nextOf_3 18 rfl rfl)
theorem dX4_nextOf_88 : decode cX4_nextOf 88 = .ok (.istore 7, 2) := dk_54 7 (dk_at dksX4_nextOf_3 19 rfl rfl)
theorem dX4_nextOf_90 : decode cX4_nextOf 90 = .ok (.aload_n 0, 1) := dk_42 (dk_at dksX4_nextOf_3 21 rfl rfl)
theorem dX4_nextOf_91 : decode cX4_nextOf 91 = .ok (.iload 5, 2) := dk_21 5 (dk_at dksX4_nextOf_3 22 rfl rfl)
theorem dX4_nextOf_93 : decode cX4_nextOf 93 = .ok (.iload_n 3, 1) := dk_29 (dk_at dksX4_nextOf_4 0 rfl rfl)
theorem dX4_nextOf_94 : decode cX4_nextOf 94 = .ok (.invokevirtual 208, 3) := dk_182 0 208 (dk_at dksX4_nextOf_4 1 rfl rfl)
theorem dX4_nextOf_97 : decode cX4_nextOf 97 = .ok (.ifCond .eq 13, 3) := dk_153 0 13 (dk_at dksX4_nextOf_4 4 rfl rfl)
theorem dX4_nextOf_100 : decode cX4_nextOf 100 = .ok (.iload 5, 2) := dk_21 5 (dk_at dksX4_nextOf_4 7 rfl rfl)
theorem dX4_nextOf_102 : decode cX4_nextOf 102 = .ok (.iload_n 3, 1) := dk_29 (dk_at dksX4_nextOf_4 9 rfl rfl)
theorem dX4_nextOf_103 : decode cX4_nextOf 103 = .ok (.if_icmp .ge 7, 3) := dk_162 0 7 (dk_at dksX4_nextOf_4 10 rfl rfl)
theorem dX4_nextOf_106 : decode cX4_nextOf 106 = .ok (.iconst 1, 1) := dk_4 (dk_at dksX4_nextOf_4 13 rfl rfl)
theorem dX4_nextOf_107 : decode cX4_nextOf 107 = .ok (.goto 4, 3) := dk_167 0 4 (dk_at dksX4_nextOf_4 14 rfl rfl)
theorem dX4_nextOf_110 : decode cX4_nextOf 110 = .ok (.iconst 0, 1) := dk_3 (dk_at dksX4_nextOf_4 17 rfl rfl)
theorem dX4_nextOf_111 : decode cX4_nextOf 111 = .ok (.istore 8, 2) := dk_54 8 (dk_at dksX4_nextOf_4 18 rfl rfl)
theorem dX4_nextOf_113 : decode cX4_nextOf 113 = .ok (.iload 6, 2) := dk_21 6 (dk_at dksX4_nextOf_4 20 rfl rfl)
theorem dX4_nextOf_115 : decode cX4_nextOf 115 = .ok (.ifCond .lt 13, 3) := dk_155 0 13 (dk_at dksX4_nextOf_5 0 rfl rfl)
theorem dX4_nextOf_118 : decode cX4_nextOf 118 = .ok (.iload 7, 2) := dk_21 7 (dk_at dksX4_nextOf_5 3 rfl rfl)
theorem dX4_nextOf_120 : decode cX4_nextOf 120 = .ok (.ifCond .ne 8, 3) := dk_154 0 8 (dk_at dksX4_nextOf_5 5 rfl rfl)
theorem dX4_nextOf_123 : decode cX4_nextOf 123 = .ok (.iload 8, 2) := dk_21 8 (dk_at dksX4_nextOf_5 8 rfl rfl)
theorem dX4_nextOf_125 : decode cX4_nextOf 125 = .ok (.ifCond .eq 6, 3) := dk_153 0 6 (dk_at dksX4_nextOf_5 10 rfl rfl)
theorem dX4_nextOf_128 : decode cX4_nextOf 128 = .ok (.iload 5, 2) := dk_21 5 (dk_at dksX4_nextOf_5 13 rfl rfl)
theorem dX4_nextOf_130 : decode cX4_nextOf 130 = .ok (.istore_n 3, 1) := dk_62 (dk_at dksX4_nextOf_5 15 rfl rfl)
theorem dX4_nextOf_131 : decode cX4_nextOf 131 = .ok (.iinc 4 1, 3) := dk_132 4 1 (dk_at dksX4_nextOf_5 16 rfl rfl)
theorem dX4_nextOf_134 : decode cX4_nextOf 134 = .ok (.goto (-129), 3) := dk_167 255 127 (dk_at dksX4_nextOf_5 19 rfl rfl)
theorem dX4_nextOf_137 : decode cX4_nextOf 137 = .ok (.iload_n 3, 1) := dk_29 (dk_at dksX4_nextOf_5 22 rfl rfl)
theorem dX4_nextOf_138 : decode cX4_nextOf 138 = .ok (.ireturn, 1) := dk_172 (dk_at dksX4_nextOf_5 23 rfl rfl)
abbrev cX4_areSame : ByteArray := prog_40_method_35_code
def yX4_areSame : MethodName := ⟨RX4, "areSame", "(II)Z"⟩
def dkwX4_areSame_2 : List UInt8 := [3, 172]
abbrev dktX4_areSame_2 : List UInt8 := dkwX4_areSame_2 ++ []
def dkwX4_areSame_1 : List UInt8 := [180, 0, 44, 180, 0, 88, 27, 46, 42, 180, 0, 44, 180, 0, 88, 28, 46, 160, 0, 7, 4, 167, 0, 4]
abbrev dktX4_areSame_1 : List UInt8 := dkwX4_areSame_1 ++ dktX4_areSame_2
def dkwX4_areSame_0 : List UInt8 := [42, 180, 0, 44, 180, 0, 85, 27, 46, 42, 180, 0, 44, 180, 0, 85, 28, 46, 160, 0, 28, 42]
abbrev dktX4_areSame_0 : List UInt8 := dkwX4_areSame_0 ++ dktX4_areSame_1
theorem dksX4_areSame_0 : cX4_areSame.data.toList.drop 0 = dktX4_areSame_0 := by decide +kernel
theorem dksX4_areSame_1 : cX4_areSame.data.toList.drop 22 = dktX4_areSame_1 := dk_seg dksX4_areSame_0 22 rfl rfl
theorem dksX4_areSame_2 : cX4_areSame.data.toList.drop 46 = dktX4_areSame_2 := dk_seg dksX4_areSame_1 24 rfl rfl
theorem dX4_areSame_0 : decode cX4_areSame 0 = .ok (.aload_n 0, 1) := dk_42 (dk_at dksX4_areSame_0 0 rfl rfl)
theorem dX4_areSame_1 : decode cX4_areSame 1 = .ok (.getfield 44, 3) := dk_180 0 44 (dk_at dksX4_areSame_0 1 rfl rfl)
theorem dX4_areSame_4 : decode cX4_areSame 4 = .ok (.getfield 85, 3) := dk_180 0 85 (dk_at dksX4_areSame_0 4 rfl rfl)
theorem dX4_areSame_7 : decode cX4_areSame 7 = .ok (.iload_n 1, 1) := dk_27 (dk_at dksX4_areSame_0 7 rfl rfl)
theorem dX4_areSame_8 : decode cX4_areSame 8 = .ok (.iaload, 1) := dk_46 (dk_at dksX4_areSame_0 8 rfl rfl)
theorem dX4_areSame_9 : decode cX4_areSame 9 = .ok (.aload_n 0, 1) := dk_42 (dk_at dksX4_areSame_0 9 rfl rfl)
theorem dX4_areSame_10 : decode cX4_areSame 10 = .ok (.getfield 44, 3) := dk_180 0 44 (dk_at dksX4_areSame_0 10 rfl rfl)
theorem dX4_areSame_13 : decode cX4_areSame 13 = .ok (.getfield 85, 3) := dk_180 0 85 (dk_at dksX4_areSame_0 13 rfl rfl)
theorem dX4_areSame_16 : decode cX4_areSame 16 = .ok (.iload_n 2, 1) := dk_28 (dk_at dksX4_areSame_0 16 rfl rfl)
theorem dX4_areSame_17 : decode cX4_areSame 17 = .ok (.iaload, 1) := dk_46 (dk_at dksX4_areSame_0 17 rfl rfl)
theorem dX4_areSame_18 : decode cX4_areSame 18 = .ok (.if_icmp .ne 28, 3) := dk_160 0 28 (dk_at dksX4_areSame_0 18 rfl rfl)
theorem dX4_areSame_21 : decode cX4_areSame 21 = .ok (.aload_n 0, 1) := dk_42 (dk_at dksX4_areSame_0 21 rfl rfl)
theorem dX4_areSame_22 : decode cX4_areSame 22 = .ok (.getfield 44, 3) := dk_180 0 44 (dk_at dksX4_areSame_1 0 rfl rfl)
theorem dX4_areSame_25 : decode cX4_areSame 25 = .ok (.getfield 88, 3) := dk_180 0 88 (dk_at dksX4_areSame_1 3 rfl rfl)
theorem dX4_areSame_28 : decode cX4_areSame 28 = .ok (.iload_n 1, 1) := dk_27 (dk_at dksX4_areSame_1 6 rfl rfl)
theorem dX4_areSame_29 : decode cX4_areSame 29 = .ok (.iaload, 1) := dk_46 (dk_at dksX4_areSame_1 7 rfl rfl)
theorem dX4_areSame_30 : decode cX4_areSame 30 = .ok (.aload_n 0, 1) := dk_42 (dk_at dksX4_areSame_1 8 rfl rfl)
theorem dX4_areSame_31 : decode cX4_areSame 31 = .ok (.getfield 44, 3) := dk_180 0 44 (dk_at dksX4_areSame_1 9 rfl rfl)
theorem dX4_areSame_34 : decode cX4_areSame 34 = .ok (.getfield 88, 3) := dk_180 0 88 (dk_at dksX4_areSame_1 12 rfl rfl)
theorem dX4_areSame_37 : decode cX4_areSame 37 = .ok (.iload_n 2, 1) := dk_28 (dk_at dksX4_areSame_1 15 rfl rfl)
theorem dX4_areSame_38 : decode cX4_areSame 38 = .ok (.iaload, 1) := dk_46 (dk_at dksX4_areSame_1 16 rfl rfl)
theorem dX4_areSame_39 : decode cX4_areSame 39 = .ok (.if_icmp .ne 7, 3) := dk_160 0 7 (dk_at dksX4_areSame_1 17 rfl rfl)
theorem dX4_areSame_42 : decode cX4_areSame 42 = .ok (.iconst 1, 1) := dk_4 (dk_at dksX4_areSame_1 20 rfl rfl)
theorem dX4_areSame_43 : decode cX4_areSame 43 = .ok (.goto 4, 3) := dk_167 0 4 (dk_at dksX4_areSame_1 21 rfl rfl)
theorem dX4_areSame_46 : decode cX4_areSame 46 = .ok (.iconst 0, 1) := dk_3 (dk_at dksX4_areSame_2 0 rfl rfl)
theorem dX4_areSame_47 : decode cX4_areSame 47 = .ok (.ireturn, 1) := dk_172 (dk_at dksX4_areSame_2 1 rfl rfl)
abbrev cX4_square : ByteArray := prog_40_method_38_code
def yX4_square : MethodName := ⟨RX4, "square", "(II)I"⟩
def dkwX4_square_3 : List UInt8 := [180, 0, 88, 28, 46, 100, 104, 96, 172]
abbrev dktX4_square_3 : List UInt8 := dkwX4_square_3 ++ []
def dkwX4_square_2 : List UInt8 := [46, 42, 180, 0, 44, 180, 0, 88, 28, 46, 100, 42, 180, 0, 44, 180, 0, 88, 27, 46, 42, 180, 0, 44]
abbrev dktX4_square_2 : List UInt8 := dkwX4_square_2 ++ dktX4_square_3
def dkwX4_square_1 : List UInt8 := [180, 0, 85, 27, 46, 42, 180, 0, 44, 180, 0, 85, 28, 46, 100, 104, 42, 180, 0, 44, 180, 0, 88, 27]
abbrev dktX4_square_1 : List UInt8 := dkwX4_square_1 ++ dktX4_square_2
def dkwX4_square_0 : List UInt8 := [42, 180, 0, 44, 180, 0, 85, 27, 46, 42, 180, 0, 44, 180, 0, 85, 28, 46, 100, 42, 180, 0, 44]
abbrev dktX4_square_0 : List UInt8 := dkwX4_square_0 ++ dktX4_square_1
theorem dksX4_square_0 : cX4_square.data.toList.drop 0 = dktX4_square_0 := by decide +kernel
theorem dksX4_square_1 : cX4_square.data.toList.drop 23 = dktX4_square_1 := dk_seg dksX4_square_0 23 rfl rfl
theorem dksX4_square_2 : cX4_square.data.toList.drop 47 = dktX4_square_2 := dk_seg dksX4_square_1 24 rfl rfl
theorem dksX4_square_3 : cX4_square.data.toList.drop 71 = dktX4_square_3 := dk_seg dksX4_square_2 24 rfl rfl
theorem dX4_square_0 : decode cX4_square 0 = .ok (.aload_n 0, 1) := dk_42 (dk_at dksX4_square_0 0 rfl rfl)
theorem dX4_square_1 : decode cX4_square 1 = .ok (.getfield 44, 3) := dk_180 0 44 (dk_at dksX4_square_0 1 rfl rfl)
theorem dX4_square_4 : decode cX4_square 4 = .ok (.getfield 85, 3) := dk_180 0 85 (dk_at dksX4_square_0 4 rfl rfl)
theorem dX4_square_7 : decode cX4_square 7 = .ok (.iload_n 1, 1) := dk_27 (dk_at dksX4_square_0 7 rfl rfl)
theorem dX4_square_8 : decode cX4_square 8 = .ok (.iaload, 1) := dk_46 (dk_at dksX4_square_0 8 rfl rfl)
theorem dX4_square_9 : decode cX4_square 9 = .ok (.aload_n 0, 1) := dk_42 (dk_at dksX4_square_0 9 rfl rfl)
theorem dX4_square_10 : decode cX4_square 10 = .ok (.getfield 44, 3) := dk_180 0 44 (dk_at dksX4_square_0 10 rfl rfl)
theorem dX4_square_13 : decode cX4_square 13 = .ok (.getfield 85, 3) := dk_180 0 85 (dk_at dksX4_square_0 13 rfl rfl)
theorem dX4_square_16 : decode cX4_square 16 = .ok (.iload_n 2, 1) := dk_28 (dk_at dksX4_square_0 16 rfl rfl)
theorem dX4_square_17 : decode cX4_square 17 = .ok (.iaload, 1) := dk_46 (dk_at dksX4_square_0 17 rfl rfl)
theorem dX4_square_18 : decode cX4_square 18 = .ok (.isub, 1) := dk_100 (dk_at dksX4_square_0 18 rfl rfl)
theorem dX4_square_19 : decode cX4_square 19 = .ok (.aload_n 0, 1) := dk_42 (dk_at dksX4_square_0 19 rfl rfl)
theorem dX4_square_20 : decode cX4_square 20 = .ok (.getfield 44, 3) := dk_180 0 44 (dk_at dksX4_square_0 20 rfl rfl)
theorem dX4_square_23 : decode cX4_square 23 = .ok (.getfield 85, 3) := dk_180 0 85 (dk_at dksX4_square_1 0 rfl rfl)
theorem dX4_square_26 : decode cX4_square 26 = .ok (.iload_n 1, 1) := dk_27 (dk_at dksX4_square_1 3 rfl rfl)
theorem dX4_square_27 : decode cX4_square 27 = .ok (.iaload, 1) := dk_46 (dk_at dksX4_square_1 4 rfl rfl)
theorem dX4_square_28 : decode cX4_square 28 = .ok (.aload_n 0, 1) := dk_42 (dk_at dksX4_square_1 5 rfl rfl)
theorem dX4_square_29 : decode cX4_square 29 = .ok (.getfield 44, 3) := dk_180 0 44 (dk_at dksX4_square_1 6 rfl rfl)
theorem dX4_square_32 : decode cX4_square 32 = .ok (.getfield 85, 3) := dk_180 0 85 (dk_at dksX4_square_1 9 rfl rfl)
theorem dX4_square_35 : decode cX4_square 35 = .ok (.iload_n 2, 1) := dk_28 (dk_at dksX4_square_1 12 rfl rfl)
theorem dX4_square_36 : decode cX4_square 36 = .ok (.iaload, 1) := dk_46 (dk_at dksX4_square_1 13 rfl rfl)
theorem dX4_square_37 : decode cX4_square 37 = .ok (.isub, 1) := dk_100 (dk_at dksX4_square_1 14 rfl rfl)
theorem dX4_square_38 : decode cX4_square 38 = .ok (.imul, 1) := dk_104 (dk_at dksX4_square_1 15 rfl rfl)
theorem dX4_square_39 : decode cX4_square 39 = .ok (.aload_n 0, 1) := dk_42 (dk_at dksX4_square_1 16 rfl rfl)
theorem dX4_square_40 : decode cX4_square 40 = .ok (.getfield 44, 3) := dk_180 0 44 (dk_at dksX4_square_1 17 rfl rfl)
theorem dX4_square_43 : decode cX4_square 43 = .ok (.getfield 88, 3) := dk_180 0 88 (dk_at dksX4_square_1 20 rfl rfl)
theorem dX4_square_46 : decode cX4_square 46 = .ok (.iload_n 1, 1) := dk_27 (dk_at dksX4_square_1 23 rfl rfl)
theorem dX4_square_47 : decode cX4_square 47 = .ok (.iaload, 1) := dk_46 (dk_at dksX4_square_2 0 rfl rfl)
theorem dX4_square_48 : decode cX4_square 48 = .ok (.aload_n 0, 1) := dk_42 (dk_at dksX4_square_2 1 rfl rfl)
theorem dX4_square_49 : decode cX4_square 49 = .ok (.getfield 44, 3) := dk_180 0 44 (dk_at dksX4_square_2 2 rfl rfl)
theorem dX4_square_52 : decode cX4_square 52 = .ok (.getfield 88, 3) := dk_180 0 88 (dk_at dksX4_square_2 5 rfl rfl)
theorem dX4_square_55 : decode cX4_square 55 = .ok (.iload_n 2, 1) := dk_28 (dk_at dksX4_square_2 8 rfl rfl)
theorem dX4_square_56 : decode cX4_square 56 = .ok (.iaload, 1) := dk_46 (dk_at dksX4_square_2 9 rfl rfl)
theorem dX4_square_57 : decode cX4_square 57 = .ok (.isub, 1) := dk_100 (dk_at dksX4_square_2 10 rfl rfl)
theorem dX4_square_58 : decode cX4_square 58 = .ok (.aload_n 0, 1) := dk_42 (dk_at dksX4_square_2 11 rfl rfl)
theorem dX4_square_59 : decode cX4_square 59 = .ok (.getfield 44, 3) := dk_180 0 44 (dk_at dksX4_square_2 12 rfl rfl)
theorem dX4_square_62 : decode cX4_square 62 = .ok (.getfield 88, 3) := dk_180 0 88 (dk_at dksX4_square_2 15 rfl rfl)
theorem dX4_square_65 : decode cX4_square 65 = .ok (.iload_n 1, 1) := dk_27 (dk_at dksX4_square_2 18 rfl rfl)
theorem dX4_square_66 : decode cX4_square 66 = .ok (.iaload, 1) := dk_46 (dk_at dksX4_square_2 19 rfl rfl)
theorem dX4_square_67 : decode cX4_square 67 = .ok (.aload_n 0, 1) := dk_42 (dk_at dksX4_square_2 20 rfl rfl)
theorem dX4_square_68 : decode cX4_square 68 = .ok (.getfield 44, 3) := dk_180 0 44 (dk_at dksX4_square_2 21 rfl rfl)
theorem dX4_square_71 : decode cX4_square 71 = .ok (.getfield 88, 3) := dk_180 0 88 (dk_at dksX4_square_3 0 rfl rfl)
theorem dX4_square_74 : decode cX4_square 74 = .ok (.iload_n 2, 1) := dk_28 (dk_at dksX4_square_3 3 rfl rfl)
theorem dX4_square_75 : decode cX4_square 75 = .ok (.iaload, 1) := dk_46 (dk_at dksX4_square_3 4 rfl rfl)
theorem dX4_square_76 : decode cX4_square 76 = .ok (.isub, 1) := dk_100 (dk_at dksX4_square_3 5 rfl rfl)
theorem dX4_square_77 : decode cX4_square 77 = .ok (.imul, 1) := dk_104 (dk_at dksX4_square_3 6 rfl rfl)
theorem dX4_square_78 : decode cX4_square 78 = .ok (.iadd, 1) := dk_96 (dk_at dksX4_square_3 7 rfl rfl)
theorem dX4_square_79 : decode cX4_square 79 = .ok (.ireturn, 1) := dk_172 (dk_at dksX4_square_3 8 rfl rfl)
abbrev cX4_hullArea : ByteArray := prog_40_method_39_code
def yX4_hullArea : MethodName := ⟨RX4, "hullArea", "()I"⟩
def dkwX4_hullArea_3 : List UInt8 := [29, 46, 104, 100, 96, 60, 132, 2, 1, 167, 255, 179, 27, 184, 0, 103, 172]
abbrev dktX4_hullArea_3 : List UInt8 := dkwX4_hullArea_3 ++ []
def dkwX4_hullArea_2 : List UInt8 := [180, 0, 88, 21, 4, 46, 104, 42, 180, 0, 44, 180, 0, 85, 21, 4, 46, 42, 180, 0, 44, 180, 0, 88]
abbrev dktX4_hullArea_2 : List UInt8 := dkwX4_hullArea_2 ++ dktX4_hullArea_3
def dkwX4_hullArea_1 : List UInt8 := [4, 96, 42, 180, 0, 202, 112, 46, 54, 4, 27, 42, 180, 0, 44, 180, 0, 85, 29, 46, 42, 180, 0, 44]
abbrev dktX4_hullArea_1 : List UInt8 := dkwX4_hullArea_1 ++ dktX4_hullArea_2
def dkwX4_hullArea_0 : List UInt8 := [3, 60, 3, 61, 28, 42, 180, 0, 202, 162, 0, 75, 42, 180, 0, 47, 28, 46, 62, 42, 180, 0, 47, 28]
abbrev dktX4_hullArea_0 : List UInt8 := dkwX4_hullArea_0 ++ dktX4_hullArea_1
theorem dksX4_hullArea_0 : cX4_hullArea.data.toList.drop 0 = dktX4_hullArea_0 := by decide +kernel
theorem dksX4_hullArea_1 : cX4_hullArea.data.toList.drop 24 = dktX4_hullArea_1 := dk_seg dksX4_hullArea_0 24 rfl rfl
theorem dksX4_hullArea_2 : cX4_hullArea.data.toList.drop 48 = dktX4_hullArea_2 := dk_seg dksX4_hullArea_1 24 rfl rfl
theorem dksX4_hullArea_3 : cX4_hullArea.data.toList.drop 72 = dktX4_hullArea_3 := dk_seg dksX4_hullArea_2 24 rfl rfl
theorem dX4_hullArea_0 : decode cX4_hullArea 0 = .ok (.iconst 0, 1) := dk_3 (dk_at dksX4_hullArea_0 0 rfl rfl)
theorem dX4_hullArea_1 : decode cX4_hullArea 1 = .ok (.istore_n 1, 1) := dk_60 (dk_at dksX4_hullArea_0 1 rfl rfl)
theorem dX4_hullArea_2 : decode cX4_hullArea 2 = .ok (.iconst 0, 1) := dk_3 (dk_at dksX4_hullArea_0 2 rfl rfl)
theorem dX4_hullArea_3 : decode cX4_hullArea 3 = .ok (.istore_n 2, 1) := dk_61 (dk_at dksX4_hullArea_0 3 rfl rfl)
theorem dX4_hullArea_4 : decode cX4_hullArea 4 = .ok (.iload_n 2, 1) := dk_28 (dk_at dksX4_hullArea_0 4 rfl rfl)
theorem dX4_hullArea_5 : decode cX4_hullArea 5 = .ok (.aload_n 0, 1) := dk_42 (dk_at dksX4_hullArea_0 5 rfl rfl)
theorem dX4_hullArea_6 : decode cX4_hullArea 6 = .ok (.getfield 202, 3) := dk_180 0 202 (dk_at dksX4_hullArea_0 6 rfl rfl)
theorem dX4_hullArea_9 : decode cX4_hullArea 9 = .ok (.if_icmp .ge 75, 3) := dk_162 0 75 (dk_at dksX4_hullArea_0 9 rfl rfl)
theorem dX4_hullArea_12 : decode cX4_hullArea 12 = .ok (.aload_n 0, 1) := dk_42 (dk_at dksX4_hullArea_0 12 rfl rfl)
theorem dX4_hullArea_13 : decode cX4_hullArea 13 = .ok (.getfield 47, 3) := dk_180 0 47 (dk_at dksX4_hullArea_0 13 rfl rfl)
theorem dX4_hullArea_16 : decode cX4_hullArea 16 = .ok (.iload_n 2, 1) := dk_28 (dk_at dksX4_hullArea_0 16 rfl rfl)
theorem dX4_hullArea_17 : decode cX4_hullArea 17 = .ok (.iaload, 1) := dk_46 (dk_at dksX4_hullArea_0 17 rfl rfl)
theorem dX4_hullArea_18 : decode cX4_hullArea 18 = .ok (.istore_n 3, 1) := dk_62 (dk_at dksX4_hullArea_0 18 rfl rfl)
theorem dX4_hullArea_19 : decode cX4_hullArea 19 = .ok (.aload_n 0, 1) := dk_42 (dk_at dksX4_hullArea_0 19 rfl rfl)
theorem dX4_hullArea_20 : decode cX4_hullArea 20 = .ok (.getfield 47, 3) := dk_180 0 47 (dk_at dksX4_hullArea_0 20 rfl rfl)
theorem dX4_hullArea_23 : decode cX4_hullArea 23 = .ok (.iload_n 2, 1) := dk_28 (dk_at dksX4_hullArea_0 23 rfl rfl)
theorem dX4_hullArea_24 : decode cX4_hullArea 24 = .ok (.iconst 1, 1) := dk_4 (dk_at dksX4_hullArea_1 0 rfl rfl)
theorem dX4_hullArea_25 : decode cX4_hullArea 25 = .ok (.iadd, 1) := dk_96 (dk_at dksX4_hullArea_1 1 rfl rfl)
theorem dX4_hullArea_26 : decode cX4_hullArea 26 = .ok (.aload_n 0, 1) := dk_42 (dk_at dksX4_hullArea_1 2 rfl rfl)
theorem dX4_hullArea_27 : decode cX4_hullArea 27 = .ok (.getfield 202, 3) := dk_180 0 202 (dk_at dksX4_hullArea_1 3 rfl rfl)
theorem dX4_hullArea_30 : decode cX4_hullArea 30 = .ok (.irem, 1) := dk_112 (dk_at dksX4_hullArea_1 6 rfl rfl)
theorem dX4_hullArea_31 : decode cX4_hullArea 31 = .ok (.iaload, 1) := dk_46 (dk_at dksX4_hullArea_1 7 rfl rfl)
theorem dX4_hullArea_32 : decode cX4_hullArea 32 = .ok (.istore 4, 2) := dk_54 4 (dk_at dksX4_hullArea_1 8 rfl rfl)
theorem dX4_hullArea_34 : decode cX4_hullArea 34 = .ok (.iload_n 1, 1) := dk_27 (dk_at dksX4_hullArea_1 10 rfl rfl)
theorem dX4_hullArea_35 : decode cX4_hullArea 35 = .ok (.aload_n 0, 1) := dk_42 (dk_at dksX4_hullArea_1 11 rfl rfl)
theorem dX4_hullArea_36 : decode cX4_hullArea 36 = .ok (.getfield 44, 3) := dk_180 0 44 (dk_at dksX4_hullArea_1 12 rfl rfl)
theorem dX4_hullArea_39 : decode cX4_hullArea 39 = .ok (.getfield 85, 3) := dk_180 0 85 (dk_at dksX4_hullArea_1 15 rfl rfl)
theorem dX4_hullArea_42 : decode cX4_hullArea 42 = .ok (.iload_n 3, 1) := dk_29 (dk_at dksX4_hullArea_1 18 rfl rfl)
theorem dX4_hullArea_43 : decode cX4_hullArea 43 = .ok (.iaload, 1) := dk_46 (dk_at dksX4_hullArea_1 19 rfl rfl)
theorem dX4_hullArea_44 : decode cX4_hullArea 44 = .ok (.aload_n 0, 1) := dk_42 (dk_at dksX4_hullArea_1 20 rfl rfl)
theorem dX4_hullArea_45 : decode cX4_hullArea 45 = .ok (.getfield 44, 3) := dk_180 0 44 (dk_at dksX4_hullArea_1 21 rfl rfl)
theorem dX4_hullArea_48 : decode cX4_hullArea 48 = .ok (.getfield 88, 3) := dk_180 0 88 (dk_at dksX4_hullArea_2 0 rfl rfl)
theorem dX4_hullArea_51 : decode cX4_hullArea 51 = .ok (.iload 4, 2) := dk_21 4 (dk_at dksX4_hullArea_2 3 rfl rfl)
theorem dX4_hullArea_53 : decode cX4_hullArea 53 = .ok (.iaload, 1) := dk_46 (dk_at dksX4_hullArea_2 5 rfl rfl)
theorem dX4_hullArea_54 : decode cX4_hullArea 54 = .ok (.imul, 1) := dk_104 (dk_at dksX4_hullArea_2 6 rfl rfl)
theorem dX4_hullArea_55 : decode cX4_hullArea 55 = .ok (.aload_n 0, 1) := dk_42 (dk_at dksX4_hullArea_2 7 rfl rfl)
theorem dX4_hullArea_56 : decode cX4_hullArea 56 = .ok (.getfield 44, 3) := dk_180 0 44 (dk_at dksX4_hullArea_2 8 rfl rfl)
theorem dX4_hullArea_59 : decode cX4_hullArea 59 = .ok (.getfield 85, 3) := dk_180 0 85 (dk_at dksX4_hullArea_2 11 rfl rfl)
theorem dX4_hullArea_62 : decode cX4_hullArea 62 = .ok (.iload 4, 2) := dk_21 4 (dk_at dksX4_hullArea_2 14 rfl rfl)
theorem dX4_hullArea_64 : decode cX4_hullArea 64 = .ok (.iaload, 1) := dk_46 (dk_at dksX4_hullArea_2 16 rfl rfl)
theorem dX4_hullArea_65 : decode cX4_hullArea 65 = .ok (.aload_n 0, 1) := dk_42 (dk_at dksX4_hullArea_2 17 rfl rfl)
theorem dX4_hullArea_66 : decode cX4_hullArea 66 = .ok (.getfield 44, 3) := dk_180 0 44 (dk_at dksX4_hullArea_2 18 rfl rfl)
theorem dX4_hullArea_69 : decode cX4_hullArea 69 = .ok (.getfield 88, 3) := dk_180 0 88 (dk_at dksX4_hullArea_2 21 rfl rfl)
theorem dX4_hullArea_72 : decode cX4_hullArea 72 = .ok (.iload_n 3, 1) := dk_29 (dk_at dksX4_hullArea_3 0 rfl rfl)
theorem dX4_hullArea_73 : decode cX4_hullArea 73 = .ok (.iaload, 1) := dk_46 (dk_at dksX4_hullArea_3 1 rfl rfl)
theorem dX4_hullArea_74 : decode cX4_hullArea 74 = .ok (.imul, 1) := dk_104 (dk_at dksX4_hullArea_3 2 rfl rfl)
theorem dX4_hullArea_75 : decode cX4_hullArea 75 = .ok (.isub, 1) := dk_100 (dk_at dksX4_hullArea_3 3 rfl rfl)
theorem dX4_hullArea_76 : decode cX4_hullArea 76 = .ok (.iadd, 1) := dk_96 (dk_at dksX4_hullArea_3 4 rfl rfl)
theorem dX4_hullArea_77 : decode cX4_hullArea 77 = .ok (.istore_n 1, 1) := dk_60 (dk_at dksX4_hullArea_3 5 rfl rfl)
theorem dX4_hullArea_78 : decode cX4_hullArea 78 = .ok (.iinc 2 1, 3) := dk_132 2 1 (dk_at dksX4_hullArea_3 6 rfl rfl)
theorem dX4_hullArea_81 : decode cX4_hullArea 81 = .ok (.goto (-77), 3) := dk_167 255 179 (dk_at dksX4_hullArea_3 9 rfl rfl)
theorem dX4_hullArea_84 : decode cX4_hullArea 84 = .ok (.iload_n 1, 1) := dk_27 (dk_at dksX4_hullArea_3 12 rfl rfl)
theorem dX4_hullArea_85 : decode cX4_hullArea 85 = .ok (.invokestatic 103, 3) := dk_184 0 103 (dk_at dksX4_hullArea_3 13 rfl rfl)
theorem dX4_hullArea_88 : decode cX4_hullArea 88 = .ok (.ireturn, 1) := dk_172 (dk_at dksX4_hullArea_3 16 rfl rfl)
abbrev cX4_widest : ByteArray := prog_40_method_40_code
def yX4_widest : MethodName := ⟨RX4, "widest", "(I)I"⟩
def dkwX4_widest_2 : List UInt8 := [61, 132, 4, 1, 167, 255, 225, 132, 3, 1, 167, 255, 203, 28, 172]
abbrev dktX4_widest_2 : List UInt8 := dkwX4_widest_2 ++ []
def dkwX4_widest_1 : List UInt8 := [162, 0, 31, 28, 42, 42, 27, 29, 182, 0, 95, 42, 27, 21, 4, 182, 0, 95, 182, 0, 211, 184, 0, 120]
abbrev dktX4_widest_1 : List UInt8 := dkwX4_widest_1 ++ dktX4_widest_2
def dkwX4_widest_0 : List UInt8 := [3, 61, 3, 62, 29, 42, 180, 0, 41, 180, 0, 82, 27, 46, 162, 0, 46, 3, 54, 4, 21, 4, 29]
abbrev dktX4_widest_0 : List UInt8 := dkwX4_widest_0 ++ dktX4_widest_1
theorem dksX4_widest_0 : cX4_widest.data.toList.drop 0 = dktX4_widest_0 := by decide +kernel
theorem dksX4_widest_1 : cX4_widest.data.toList.drop 23 = dktX4_widest_1 := dk_seg dksX4_widest_0 23 rfl rfl
theorem dksX4_widest_2 : cX4_widest.data.toList.drop 47 = dktX4_widest_2 := dk_seg dksX4_widest_1 24 rfl rfl
theorem dX4_widest_0 : decode cX4_widest 0 = .ok (.iconst 0, 1) := dk_3 (dk_at dksX4_widest_0 0 rfl rfl)
theorem dX4_widest_1 : decode cX4_widest 1 = .ok (.istore_n 2, 1) := dk_61 (dk_at dksX4_widest_0 1 rfl rfl)
theorem dX4_widest_2 : decode cX4_widest 2 = .ok (.iconst 0, 1) := dk_3 (dk_at dksX4_widest_0 2 rfl rfl)
theorem dX4_widest_3 : decode cX4_widest 3 = .ok (.istore_n 3, 1) := dk_62 (dk_at dksX4_widest_0 3 rfl rfl)
theorem dX4_widest_4 : decode cX4_widest 4 = .ok (.iload_n 3, 1) := dk_29 (dk_at dksX4_widest_0 4 rfl rfl)
theorem dX4_widest_5 : decode cX4_widest 5 = .ok (.aload_n 0, 1) := dk_42 (dk_at dksX4_widest_0 5 rfl rfl)
theorem dX4_widest_6 : decode cX4_widest 6 = .ok (.getfield 41, 3) := dk_180 0 41 (dk_at dksX4_widest_0 6 rfl rfl)
theorem dX4_widest_9 : decode cX4_widest 9 = .ok (.getfield 82, 3) := dk_180 0 82 (dk_at dksX4_widest_0 9 rfl rfl)
theorem dX4_widest_12 : decode cX4_widest 12 = .ok (.iload_n 1, 1) := dk_27 (dk_at dksX4_widest_0 12 rfl rfl)
theorem dX4_widest_13 : decode cX4_widest 13 = .ok (.iaload, 1) := dk_46 (dk_at dksX4_widest_0 13 rfl rfl)
theorem dX4_widest_14 : decode cX4_widest 14 = .ok (.if_icmp .ge 46, 3) := dk_162 0 46 (dk_at dksX4_widest_0 14 rfl rfl)
theorem dX4_widest_17 : decode cX4_widest 17 = .ok (.iconst 0, 1) := dk_3 (dk_at dksX4_widest_0 17 rfl rfl)
theorem dX4_widest_18 : decode cX4_widest 18 = .ok (.istore 4, 2) := dk_54 4 (dk_at dksX4_widest_0 18 rfl rfl)
theorem dX4_widest_20 : decode cX4_widest 20 = .ok (.iload 4, 2) := dk_21 4 (dk_at dksX4_widest_0 20 rfl rfl)
theorem dX4_widest_22 : decode cX4_widest 22 = .ok (.iload_n 3, 1) := dk_29 (dk_at dksX4_widest_0 22 rfl rfl)
theorem dX4_widest_23 : decode cX4_widest 23 = .ok (.if_icmp .ge 31, 3) := dk_162 0 31 (dk_at dksX4_widest_1 0 rfl rfl)
theorem dX4_widest_26 : decode cX4_widest 26 = .ok (.iload_n 2, 1) := dk_28 (dk_at dksX4_widest_1 3 rfl rfl)
theorem dX4_widest_27 : decode cX4_widest 27 = .ok (.aload_n 0, 1) := dk_42 (dk_at dksX4_widest_1 4 rfl rfl)
theorem dX4_widest_28 : decode cX4_widest 28 = .ok (.aload_n 0, 1) := dk_42 (dk_at dksX4_widest_1 5 rfl rfl)
theorem dX4_widest_29 : decode cX4_widest 29 = .ok (.iload_n 1, 1) := dk_27 (dk_at dksX4_widest_1 6 rfl rfl)
theorem dX4_widest_30 : decode cX4_widest 30 = .ok (.iload_n 3, 1) := dk_29 (dk_at dksX4_widest_1 7 rfl rfl)
theorem dX4_widest_31 : decode cX4_widest 31 = .ok (.invokevirtual 95, 3) := dk_182 0 95 (dk_at dksX4_widest_1 8 rfl rfl)
theorem dX4_widest_34 : decode cX4_widest 34 = .ok (.aload_n 0, 1) := dk_42 (dk_at dksX4_widest_1 11 rfl rfl)
theorem dX4_widest_35 : decode cX4_widest 35 = .ok (.iload_n 1, 1) := dk_27 (dk_at dksX4_widest_1 12 rfl rfl)
theorem dX4_widest_36 : decode cX4_widest 36 = .ok (.iload 4, 2) := dk_21 4 (dk_at dksX4_widest_1 13 rfl rfl)
theorem dX4_widest_38 : decode cX4_widest 38 = .ok (.invokevirtual 95, 3) := dk_182 0 95 (dk_at dksX4_widest_1 15 rfl rfl)
theorem dX4_widest_41 : decode cX4_widest 41 = .ok (.invokevirtual 211, 3) := dk_182 0 211 (dk_at dksX4_widest_1 18 rfl rfl)
theorem dX4_widest_44 : decode cX4_widest 44 = .ok (.invokestatic 120, 3) := dk_184 0 120 (dk_at dksX4_widest_1 21 rfl rfl)
theorem dX4_widest_47 : decode cX4_widest 47 = .ok (.istore_n 2, 1) := dk_61 (dk_at dksX4_widest_2 0 rfl rfl)
theorem dX4_widest_48 : decode cX4_widest 48 = .ok (.iinc 4 1, 3) := dk_132 4 1 (dk_at dksX4_widest_2 1 rfl rfl)
theorem dX4_widest_51 : decode cX4_widest 51 = .ok (.goto (-31), 3) := dk_167 255 225 (dk_at dksX4_widest_2 4 rfl rfl)
theorem dX4_widest_54 : decode cX4_widest 54 = .ok (.iinc 3 1, 3) := dk_132 3 1 (dk_at dksX4_widest_2 7 rfl rfl)
theorem dX4_widest_57 : decode cX4_widest 57 = .ok (.goto (-53), 3) := dk_167 255 203 (dk_at dksX4_widest_2 10 rfl rfl)
theorem dX4_widest_60 : decode cX4_widest 60 = .ok (.iload_n 2, 1) := dk_28 (dk_at dksX4_widest_2 13 rfl rfl)
theorem dX4_widest_61 : decode cX4_widest 61 = .ok (.ireturn, 1) := dk_172 (dk_at dksX4_widest_2 14 rfl rfl)
abbrev cX4_hullCorner : ByteArray := prog_40_method_94_code
def yX4_hullCorner : MethodName := ⟨RX4, "hullCorner", "(II)I"⟩
def dkwX4_hullCorner_2 : List UInt8 := [180, 0, 47, 28, 46, 167, 0, 8, 42, 4, 182, 1, 122, 172]
abbrev dktX4_hullCorner_2 : List UInt8 := dkwX4_hullCorner_2 ++ []
def dkwX4_hullCorner_1 : List UInt8 := [182, 1, 144, 42, 27, 182, 0, 214, 28, 3, 42, 180, 0, 202, 4, 100, 184, 0, 69, 153, 0, 12, 42]
abbrev dktX4_hullCorner_1 : List UInt8 := dkwX4_hullCorner_1 ++ dktX4_hullCorner_2
def dkwX4_hullCorner_0 : List UInt8 := [42, 3, 181, 0, 50, 42, 27, 182, 1, 173, 154, 0, 9, 42, 4, 182, 1, 122, 172, 42, 42, 180, 0, 27]
abbrev dktX4_hullCorner_0 : List UInt8 := dkwX4_hullCorner_0 ++ dktX4_hullCorner_1
theorem dksX4_hullCorner_0 : cX4_hullCorner.data.toList.drop 0 = dktX4_hullCorner_0 := by decide +kernel
theorem dksX4_hullCorner_1 : cX4_hullCorner.data.toList.drop 24 = dktX4_hullCorner_1 := dk_seg dksX4_hullCorner_0 24 rfl rfl
theorem dksX4_hullCorner_2 : cX4_hullCorner.data.toList.drop 47 = dktX4_hullCorner_2 := dk_seg dksX4_hullCorner_1 23 rfl rfl
theorem dX4_hullCorner_0 : decode cX4_hullCorner 0 = .ok (.aload_n 0, 1) := dk_42 (dk_at dksX4_hullCorner_0 0 rfl rfl)
theorem dX4_hullCorner_1 : decode cX4_hullCorner 1 = .ok (.iconst 0, 1) := dk_3 (dk_at dksX4_hullCorner_0 1 rfl rfl)
theorem dX4_hullCorner_2 : decode cX4_hullCorner 2 = .ok (.putfield 50, 3) := dk_181 0 50 (dk_at dksX4_hullCorner_0 2 rfl rfl)
theorem dX4_hullCorner_5 : decode cX4_hullCorner 5 = .ok (.aload_n 0, 1) := dk_42 (dk_at dksX4_hullCorner_0 5 rfl rfl)
theorem dX4_hullCorner_6 : decode cX4_hullCorner 6 = .ok (.iload_n 1, 1) := dk_27 (dk_at dksX4_hullCorner_0 6 rfl rfl)
theorem dX4_hullCorner_7 : decode cX4_hullCorner 7 = .ok (.invokevirtual 429, 3) := dk_182 1 173 (dk_at dksX4_hullCorner_0 7 rfl rfl)
theorem dX4_hullCorner_10 : decode cX4_hullCorner 10 = .ok (.ifCond .ne 9, 3) := dk_154 0 9 (dk_at dksX4_hullCorner_0 10 rfl rfl)
theorem dX4_hullCorner_13 : decode cX4_hullCorner 13 = .ok (.aload_n 0, 1) := dk_42 (dk_at dksX4_hullCorner_0 13 rfl rfl)
theorem dX4_hullCorner_14 : decode cX4_hullCorner 14 = .ok (.iconst 1, 1) := dk_4 (dk_at dksX4_hullCorner_0 14 rfl rfl)
theorem dX4_hullCorner_15 : decode cX4_hullCorner 15 = .ok (.invokevirtual 378, 3) := dk_182 1 122 (dk_at dksX4_hullCorner_0 15 rfl rfl)
theorem dX4_hullCorner_18 : decode cX4_hullCorner 18 = .ok (.ireturn, 1) := dk_172 (dk_at dksX4_hullCorner_0 18 rfl rfl)
theorem dX4_hullCorner_19 : decode cX4_hullCorner 19 = .ok (.aload_n 0, 1) := dk_42 (dk_at dksX4_hullCorner_0 19 rfl rfl)
theorem dX4_hullCorner_20 : decode cX4_hullCorner 20 = .ok (.aload_n 0, 1) := dk_42 (dk_at dksX4_hullCorner_0 20 rfl rfl)
theorem dX4_hullCorner_21 : decode cX4_hullCorner 21 = .ok (.getfield 27, 3) := dk_180 0 27 (dk_at dksX4_hullCorner_0 21 rfl rfl)
theorem dX4_hullCorner_24 : decode cX4_hullCorner 24 = .ok (.invokevirtual 400, 3) := dk_182 1 144 (dk_at dksX4_hullCorner_1 0 rfl rfl)
theorem dX4_hullCorner_27 : decode cX4_hullCorner 27 = .ok (.aload_n 0, 1) := dk_42 (dk_at dksX4_hullCorner_1 3 rfl rfl)
theorem dX4_hullCorner_28 : decode cX4_hullCorner 28 = .ok (.iload_n 1, 1) := dk_27 (dk_at dksX4_hullCorner_1 4 rfl rfl)
theorem dX4_hullCorner_29 : decode cX4_hullCorner 29 = .ok (.invokevirtual 214, 3) := dk_182 0 214 (dk_at dksX4_hullCorner_1 5 rfl rfl)
theorem dX4_hullCorner_32 : decode cX4_hullCorner 32 = .ok (.iload_n 2, 1) := dk_28 (dk_at dksX4_hullCorner_1 8 rfl rfl)
theorem dX4_hullCorner_33 : decode cX4_hullCorner 33 = .ok (.iconst 0, 1) := dk_3 (dk_at dksX4_hullCorner_1 9 rfl rfl)
theorem dX4_hullCorner_34 : decode cX4_hullCorner 34 = .ok (.aload_n 0, 1) := dk_42 (dk_at dksX4_hullCorner_1 10 rfl rfl)
theorem dX4_hullCorner_35 : decode cX4_hullCorner 35 = .ok (.getfield 202, 3) := dk_180 0 202 (dk_at dksX4_hullCorner_1 11 rfl rfl)
theorem dX4_hullCorner_38 : decode cX4_hullCorner 38 = .ok (.iconst 1, 1) := dk_4 (dk_at dksX4_hullCorner_1 14 rfl rfl)
theorem dX4_hullCorner_39 : decode cX4_hullCorner 39 = .ok (.isub, 1) := dk_100 (dk_at dksX4_hullCorner_1 15 rfl rfl)
theorem dX4_hullCorner_40 : decode cX4_hullCorner 40 = .ok (.invokestatic 69, 3) := dk_184 0 69 (dk_at dksX4_hullCorner_1 16 rfl rfl)
theorem dX4_hullCorner_43 : decode cX4_hullCorner 43 = .ok (.ifCond .eq 12, 3) := dk_153 0 12 (dk_at dksX4_hullCorner_1 19 rfl rfl)
theorem dX4_hullCorner_46 : decode cX4_hullCorner 46 = .ok (.aload_n 0, 1) := dk_42 (dk_at dksX4_hullCorner_1 22 rfl rfl)
theorem dX4_hullCorner_47 : decode cX4_hullCorner 47 = .ok (.getfield 47, 3) := dk_180 0 47 (dk_at dksX4_hullCorner_2 0 rfl rfl)
theorem dX4_hullCorner_50 : decode cX4_hullCorner 50 = .ok (.iload_n 2, 1) := dk_28 (dk_at dksX4_hullCorner_2 3 rfl rfl)
theorem dX4_hullCorner_51 : decode cX4_hullCorner 51 = .ok (.iaload, 1) := dk_46 (dk_at dksX4_hullCorner_2 4 rfl rfl)
theorem dX4_hullCorner_52 : decode cX4_hullCorner 52 = .ok (.goto 8, 3) := dk_167 0 8 (dk_at dksX4_hullCorner_2 5 rfl rfl)
theorem dX4_hullCorner_55 : decode cX4_hullCorner 55 = .ok (.aload_n 0, 1) := dk_42 (dk_at dksX4_hullCorner_2 8 rfl rfl)
theorem dX4_hullCorner_56 : decode cX4_hullCorner 56 = .ok (.iconst 1, 1) := dk_4 (dk_at dksX4_hullCorner_2 9 rfl rfl)
theorem dX4_hullCorner_57 : decode cX4_hullCorner 57 = .ok (.invokevirtual 378, 3) := dk_182 1 122 (dk_at dksX4_hullCorner_2 10 rfl rfl)
theorem dX4_hullCorner_60 : decode cX4_hullCorner 60 = .ok (.ireturn, 1) := dk_172 (dk_at dksX4_hullCorner_2 13 rfl rfl)
abbrev cX4_nearest : ByteArray := prog_40_method_95_code
def yX4_nearest : MethodName := ⟨RX4, "nearest", "(II)I"⟩
def dkwX4_nearest_5 : List UInt8 := [21, 4, 161, 0, 6, 167, 0, 10, 21, 5, 62, 21, 6, 54, 4, 132, 5, 1, 167, 255, 166, 29, 172]
abbrev dktX4_nearest_5 : List UInt8 := dkwX4_nearest_5 ++ []
def dkwX4_nearest_4 : List UInt8 := [100, 42, 180, 0, 27, 180, 0, 88, 21, 5, 46, 28, 100, 104, 96, 54, 6, 29, 2, 159, 0, 13, 21, 6]
abbrev dktX4_nearest_4 : List UInt8 := dkwX4_nearest_4 ++ dktX4_nearest_5
def dkwX4_nearest_3 : List UInt8 := [42, 180, 0, 27, 180, 0, 85, 21, 5, 46, 27, 100, 104, 42, 180, 0, 27, 180, 0, 88, 21, 5, 46, 28]
abbrev dktX4_nearest_3 : List UInt8 := dkwX4_nearest_3 ++ dktX4_nearest_4
def dkwX4_nearest_2 : List UInt8 := [21, 5, 42, 180, 0, 20, 180, 0, 66, 162, 0, 84, 42, 180, 0, 27, 180, 0, 85, 21, 5, 46, 27, 100]
abbrev dktX4_nearest_2 : List UInt8 := dkwX4_nearest_2 ++ dktX4_nearest_3
def dkwX4_nearest_1 : List UInt8 := [17, 3, 231, 184, 0, 69, 154, 0, 9, 42, 4, 182, 1, 122, 172, 2, 62, 3, 54, 4, 3, 54, 5]
abbrev dktX4_nearest_1 : List UInt8 := dkwX4_nearest_1 ++ dktX4_nearest_2
def dkwX4_nearest_0 : List UInt8 := [42, 3, 181, 0, 50, 27, 17, 252, 25, 17, 3, 231, 184, 0, 69, 153, 0, 16, 28, 17, 252, 25]
abbrev dktX4_nearest_0 : List UInt8 := dkwX4_nearest_0 ++ dktX4_nearest_1
theorem dksX4_nearest_0 : cX4_nearest.data.toList.drop 0 = dktX4_nearest_0 := by decide +kernel
theorem dksX4_nearest_1 : cX4_nearest.data.toList.drop 22 = dktX4_nearest_1 := dk_seg dksX4_nearest_0 22 rfl rfl
theorem dksX4_nearest_2 : cX4_nearest.data.toList.drop 45 = dktX4_nearest_2 := dk_seg dksX4_nearest_1 23 rfl rfl
theorem dksX4_nearest_3 : cX4_nearest.data.toList.drop 69 = dktX4_nearest_3 := dk_seg dksX4_nearest_2 24 rfl rfl
theorem dksX4_nearest_4 : cX4_nearest.data.toList.drop 93 = dktX4_nearest_4 := dk_seg dksX4_nearest_3 24 rfl rfl
theorem dksX4_nearest_5 : cX4_nearest.data.toList.drop 117 = dktX4_nearest_5 := dk_seg dksX4_nearest_4 24 rfl rfl
theorem dX4_nearest_0 : decode cX4_nearest 0 = .ok (.aload_n 0, 1) := dk_42 (dk_at dksX4_nearest_0 0 rfl rfl)
theorem dX4_nearest_1 : decode cX4_nearest 1 = .ok (.iconst 0, 1) := dk_3 (dk_at dksX4_nearest_0 1 rfl rfl)
theorem dX4_nearest_2 : decode cX4_nearest 2 = .ok (.putfield 50, 3) := dk_181 0 50 (dk_at dksX4_nearest_0 2 rfl rfl)
theorem dX4_nearest_5 : decode cX4_nearest 5 = .ok (.iload_n 1, 1) := dk_27 (dk_at dksX4_nearest_0 5 rfl rfl)
theorem dX4_nearest_6 : decode cX4_nearest 6 = .ok (.sipush (-999), 3) := dk_17 252 25 (dk_at dksX4_nearest_0 6 rfl rfl)
theorem dX4_nearest_9 : decode cX4_nearest 9 = .ok (.sipush 999, 3) := dk_17 3 231 (dk_at dksX4_nearest_0 9 rfl rfl)
theorem dX4_nearest_12 : decode cX4_nearest 12 = .ok (.invokestatic 69, 3) := dk_184 0 69 (dk_at dksX4_nearest_0 12 rfl rfl)
theorem dX4_nearest_15 : decode cX4_nearest 15 = .ok (.ifCond .eq 16, 3) := dk_153 0 16 (dk_at dksX4_nearest_0 15 rfl rfl)
theorem dX4_nearest_18 : decode cX4_nearest 18 = .ok (.iload_n 2, 1) := dk_28 (dk_at dksX4_nearest_0 18 rfl rfl)
theorem dX4_nearest_19 : decode cX4_nearest 19 = .ok (.sipush (-999), 3) := dk_17 252 25 (dk_at dksX4_nearest_0 19 rfl rfl)
theorem dX4_nearest_22 : decode cX4_nearest 22 = .ok (.sipush 999, 3) := dk_17 3 231 (dk_at dksX4_nearest_1 0 rfl rfl)
theorem dX4_nearest_25 : decode cX4_nearest 25 = .ok (.invokestatic 69, 3) := dk_184 0 69 (dk_at dksX4_nearest_1 3 rfl rfl)
theorem dX4_nearest_28 : decode cX4_nearest 28 = .ok (.ifCond .ne 9, 3) := dk_154 0 9 (dk_at dksX4_nearest_1 6 rfl rfl)
theorem dX4_nearest_31 : decode cX4_nearest 31 = .ok (.aload_n 0, 1) := dk_42 (dk_at dksX4_nearest_1 9 rfl rfl)
theorem dX4_nearest_32 : decode cX4_nearest 32 = .ok (.iconst 1, 1) := dk_4 (dk_at dksX4_nearest_1 10 rfl rfl)
theorem dX4_nearest_33 : decode cX4_nearest 33 = .ok (.invokevirtual 378, 3) := dk_182 1 122 (dk_at dksX4_nearest_1 11 rfl rfl)
theorem dX4_nearest_36 : decode cX4_nearest 36 = .ok (.ireturn, 1) := dk_172 (dk_at dksX4_nearest_1 14 rfl rfl)
theorem dX4_nearest_37 : decode cX4_nearest 37 = .ok (.iconst (-1), 1) := dk_2 (dk_at dksX4_nearest_1 15 rfl rfl)
theorem dX4_nearest_38 : decode cX4_nearest 38 = .ok (.istore_n 3, 1) := dk_62 (dk_at dksX4_nearest_1 16 rfl rfl)
theorem dX4_nearest_39 : decode cX4_nearest 39 = .ok (.iconst 0, 1) := dk_3 (dk_at dksX4_nearest_1 17 rfl rfl)
theorem dX4_nearest_40 : decode cX4_nearest 40 = .ok (.istore 4, 2) := dk_54 4 (dk_at dksX4_nearest_1 18 rfl rfl)
theorem dX4_nearest_42 : decode cX4_nearest 42 = .ok (.iconst 0, 1) := dk_3 (dk_at dksX4_nearest_1 20 rfl rfl)
theorem dX4_nearest_43 : decode cX4_nearest 43 = .ok (.istore 5, 2) := dk_54 5 (dk_at dksX4_nearest_1 21 rfl rfl)
theorem dX4_nearest_45 : decode cX4_nearest 45 = .ok (.iload 5, 2) := dk_21 5 (dk_at dksX4_nearest_2 0 rfl rfl)
theorem dX4_nearest_47 : decode cX4_nearest 47 = .ok (.aload_n 0, 1) := dk_42 (dk_at dksX4_nearest_2 2 rfl rfl)
theorem dX4_nearest_48 : decode cX4_nearest 48 = .ok (.getfield 20, 3) := dk_180 0 20 (dk_at dksX4_nearest_2 3 rfl rfl)
theorem dX4_nearest_51 : decode cX4_nearest 51 = .ok (.getfield 66, 3) := dk_180 0 66 (dk_at dksX4_nearest_2 6 rfl rfl)
theorem dX4_nearest_54 : decode cX4_nearest 54 = .ok (.if_icmp .ge 84, 3) := dk_162 0 84 (dk_at dksX4_nearest_2 9 rfl rfl)
theorem dX4_nearest_57 : decode cX4_nearest 57 = .ok (.aload_n 0, 1) := dk_42 (dk_at dksX4_nearest_2 12 rfl rfl)
theorem dX4_nearest_58 : decode cX4_nearest 58 = .ok (.getfield 27, 3) := dk_180 0 27 (dk_at dksX4_nearest_2 13 rfl rfl)
theorem dX4_nearest_61 : decode cX4_nearest 61 = .ok (.getfield 85, 3) := dk_180 0 85 (dk_at dksX4_nearest_2 16 rfl rfl)
theorem dX4_nearest_64 : decode cX4_nearest 64 = .ok (.iload 5, 2) := dk_21 5 (dk_at dksX4_nearest_2 19 rfl rfl)
theorem dX4_nearest_66 : decode cX4_nearest 66 = .ok (.iaload, 1) := dk_46 (dk_at dksX4_nearest_2 21 rfl rfl)
theorem dX4_nearest_67 : decode cX4_nearest 67 = .ok (.iload_n 1, 1) := dk_27 (dk_at dksX4_nearest_2 22 rfl rfl)
theorem dX4_nearest_68 : decode cX4_nearest 68 = .ok (.isub, 1) := dk_100 (dk_at dksX4_nearest_2 23 rfl rfl)
theorem dX4_nearest_69 : decode cX4_nearest 69 = .ok (.aload_n 0, 1) := dk_42 (dk_at dksX4_nearest_3 0 rfl rfl)
theorem dX4_nearest_70 : decode cX4_nearest 70 = .ok (.getfield 27, 3) := dk_180 0 27 (dk_at dksX4_nearest_3 1 rfl rfl)
theorem dX4_nearest_73 : decode cX4_nearest 73 = .ok (.getfield 85, 3) := dk_180 0 85 (dk_at dksX4_nearest_3 4 rfl rfl)
theorem dX4_nearest_76 : decode cX4_nearest 76 = .ok (.iload 5, 2) := dk_21 5 (dk_at dksX4_nearest_3 7 rfl rfl)
theorem dX4_nearest_78 : decode cX4_nearest 78 = .ok (.iaload, 1) := dk_46 (dk_at dksX4_nearest_3 9 rfl rfl)
theorem dX4_nearest_79 : decode cX4_nearest 79 = .ok (.iload_n 1, 1) := dk_27 (dk_at dksX4_nearest_3 10 rfl rfl)
theorem dX4_nearest_80 : decode cX4_nearest 80 = .ok (.isub, 1) := dk_100 (dk_at dksX4_nearest_3 11 rfl rfl)
theorem dX4_nearest_81 : decode cX4_nearest 81 = .ok (.imul, 1) := dk_104 (dk_at dksX4_nearest_3 12 rfl rfl)
theorem dX4_nearest_82 : decode cX4_nearest 82 = .ok (.aload_n 0, 1) := dk_42 (dk_at dksX4_nearest_3 13 rfl rfl)
theorem dX4_nearest_83 : decode cX4_nearest 83 = .ok (.getfield 27, 3) := dk_180 0 27 (dk_at dksX4_nearest_3 14 rfl rfl)
theorem dX4_nearest_86 : decode cX4_nearest 86 = .ok (.getfield 88, 3) := dk_180 0 88 (dk_at dksX4_nearest_3 17 rfl rfl)
theorem dX4_nearest_89 : decode cX4_nearest 89 = .ok (.iload 5, 2) := dk_21 5 (dk_at dksX4_nearest_3 20 rfl rfl)
theorem dX4_nearest_91 : decode cX4_nearest 91 = .ok (.iaload, 1) := dk_46 (dk_at dksX4_nearest_3 22 rfl rfl)
theorem dX4_nearest_92 : decode cX4_nearest 92 = .ok (.iload_n 2, 1) := dk_28 (dk_at dksX4_nearest_3 23 rfl rfl)
theorem dX4_nearest_93 : decode cX4_nearest 93 = .ok (.isub, 1) := dk_100 (dk_at dksX4_nearest_4 0 rfl rfl)
theorem dX4_nearest_94 : decode cX4_nearest 94 = .ok (.aload_n 0, 1) := dk_42 (dk_at dksX4_nearest_4 1 rfl rfl)
theorem dX4_nearest_95 : decode cX4_nearest 95 = .ok (.getfield 27, 3) := dk_180 0 27 (dk_at dksX4_nearest_4 2 rfl rfl)
theorem dX4_nearest_98 : decode cX4_nearest 98 = .ok (.getfield 88, 3) := dk_180 0 88 (dk_at dksX4_nearest_4 5 rfl rfl)
theorem dX4_nearest_101 : decode cX4_nearest 101 = .ok (.iload 5, 2) := dk_21 5 (dk_at dksX4_nearest_4 8 rfl rfl)
theorem dX4_nearest_103 : decode cX4_nearest 103 = .ok (.iaload, 1) := dk_46 (dk_at dksX4_nearest_4 10 rfl rfl)
theorem dX4_nearest_104 : decode cX4_nearest 104 = .ok (.iload_n 2, 1) := dk_28 (dk_at dksX4_nearest_4 11 rfl rfl)
theorem dX4_nearest_105 : decode cX4_nearest 105 = .ok (.isub, 1) := dk_100 (dk_at dksX4_nearest_4 12 rfl rfl)
theorem dX4_nearest_106 : decode cX4_nearest 106 = .ok (.imul, 1) := dk_104 (dk_at dksX4_nearest_4 13 rfl rfl)
theorem dX4_nearest_107 : decode cX4_nearest 107 = .ok (.iadd, 1) := dk_96 (dk_at dksX4_nearest_4 14 rfl rfl)
theorem dX4_nearest_108 : decode cX4_nearest 108 = .ok (.istore 6, 2) := dk_54 6 (dk_at dksX4_nearest_4 15 rfl rfl)
theorem dX4_nearest_110 : decode cX4_nearest 110 = .ok (.iload_n 3, 1) := dk_29 (dk_at dksX4_nearest_4 17 rfl rfl)
theorem dX4_nearest_111 : decode cX4_nearest 111 = .ok (.iconst (-1), 1) := dk_2 (dk_at dksX4_nearest_4 18 rfl rfl)
theorem dX4_nearest_112 : decode cX4_nearest 112 = .ok (.if_icmp .eq 13, 3) := dk_159 0 13 (dk_at dksX4_nearest_4 19 rfl rfl)
theorem dX4_nearest_115 : decode cX4_nearest 115 = .ok (.iload 6, 2) := dk_21 6 (dk_at dksX4_nearest_4 22 rfl rfl)
theorem dX4_nearest_117 : decode cX4_nearest 117 = .ok (.iload 4, 2) := dk_21 4 (dk_at dksX4_nearest_5 0 rfl rfl)
theorem dX4_nearest_119 : decode cX4_nearest 119 = .ok (.if_icmp .lt 6, 3) := dk_161 0 6 (dk_at dksX4_nearest_5 2 rfl rfl)
theorem dX4_nearest_122 : decode cX4_nearest 122 = .ok (.goto 10, 3) := dk_167 0 10 (dk_at dksX4_nearest_5 5 rfl rfl)
theorem dX4_nearest_125 : decode cX4_nearest 125 = .ok (.iload 5, 2) := dk_21 5 (dk_at dksX4_nearest_5 8 rfl rfl)
theorem dX4_nearest_127 : decode cX4_nearest 127 = .ok (.istore_n 3, 1) := dk_62 (dk_at dksX4_nearest_5 10 rfl rfl)
theorem dX4_nearest_128 : decode cX4_nearest 128 = .ok (.iload 6, 2) := dk_21 6 (dk_at dksX4_nearest_5 11 rfl rfl)
theorem dX4_nearest_130 : decode cX4_nearest 130 = .ok (.istore 4, 2) := dk_54 4 (dk_at dksX4_nearest_5 13 rfl rfl)
theorem dX4_nearest_132 : decode cX4_nearest 132 = .ok (.iinc 5 1, 3) := dk_132 5 1 (dk_at dksX4_nearest_5 15 rfl rfl)
theorem dX4_nearest_135 : decode cX4_nearest 135 = .ok (.goto (-90), 3) := dk_167 255 166 (dk_at dksX4_nearest_5 18 rfl rfl)
theorem dX4_nearest_138 : decode cX4_nearest 138 = .ok (.iload_n 3, 1) := dk_29 (dk_at dksX4_nearest_5 21 rfl rfl)
theorem dX4_nearest_139 : decode cX4_nearest 139 = .ok (.ireturn, 1) := dk_172 (dk_at dksX4_nearest_5 22 rfl rfl)
abbrev cX4_enter_2 : ByteArray := prog_40_method_97_code
def yX4_enter_2 : MethodName := ⟨RX4, "enter", "(II)I"⟩
def dkwX4_enter_2_2 : List UInt8 := [182, 1, 182, 153, 0, 5, 29, 172, 132, 3, 1, 167, 255, 235, 2, 172]
abbrev dktX4_enter_2_2 : List UInt8 := dkwX4_enter_2_2 ++ []
def dkwX4_enter_2_1 : List UInt8 := [182, 1, 122, 172, 42, 42, 180, 0, 27, 182, 1, 144, 3, 62, 29, 16, 12, 163, 0, 21, 42, 27, 28, 29]
abbrev dktX4_enter_2_1 : List UInt8 := dkwX4_enter_2_1 ++ dktX4_enter_2_2
def dkwX4_enter_2_0 : List UInt8 := [42, 3, 181, 0, 50, 42, 27, 182, 1, 153, 153, 0, 11, 42, 28, 182, 1, 173, 154, 0, 9, 42, 4]
abbrev dktX4_enter_2_0 : List UInt8 := dkwX4_enter_2_0 ++ dktX4_enter_2_1
theorem dksX4_enter_2_0 : cX4_enter_2.data.toList.drop 0 = dktX4_enter_2_0 := by decide +kernel
theorem dksX4_enter_2_1 : cX4_enter_2.data.toList.drop 23 = dktX4_enter_2_1 := dk_seg dksX4_enter_2_0 23 rfl rfl
theorem dksX4_enter_2_2 : cX4_enter_2.data.toList.drop 47 = dktX4_enter_2_2 := dk_seg dksX4_enter_2_1 24 rfl rfl
theorem dX4_enter_2_0 : decode cX4_enter_2 0 = .ok (.aload_n 0, 1) := dk_42 (dk_at dksX4_enter_2_0 0 rfl rfl)
theorem dX4_enter_2_1 : decode cX4_enter_2 1 = .ok (.iconst 0, 1) := dk_3 (dk_at dksX4_enter_2_0 1 rfl rfl)
theorem dX4_enter_2_2 : decode cX4_enter_2 2 = .ok (.putfield 50, 3) := dk_181 0 50 (dk_at dksX4_enter_2_0 2 rfl rfl)
theorem dX4_enter_2_5 : decode cX4_enter_2 5 = .ok (.aload_n 0, 1) := dk_42 (dk_at dksX4_enter_2_0 5 rfl rfl)
theorem dX4_enter_2_6 : decode cX4_enter_2 6 = .ok (.iload_n 1, 1) := dk_27 (dk_at dksX4_enter_2_0 6 rfl rfl)
theorem dX4_enter_2_7 : decode cX4_enter_2 7 = .ok (.invokevirtual 409, 3) := dk_182 1 153 (dk_at dksX4_enter_2_0 7 rfl rfl)
theorem dX4_enter_2_10 : decode cX4_enter_2 10 = .ok (.ifCond .eq 11, 3) := dk_153 0 11 (dk_at dksX4_enter_2_0 10 rfl rfl)
theorem dX4_enter_2_13 : decode cX4_enter_2 13 = .ok (.aload_n 0, 1) := dk_42 (dk_at dksX4_enter_2_0 13 rfl rfl)
theorem dX4_enter_2_14 : decode cX4_enter_2 14 = .ok (.iload_n 2, 1) := dk_28 (dk_at dksX4_enter_2_0 14 rfl rfl)
theorem dX4_enter_2_15 : decode cX4_enter_2 15 = .ok (.invokevirtual 429, 3) := dk_182 1 173 (dk_at dksX4_enter_2_0 15 rfl rfl)
theorem dX4_enter_2_18 : decode cX4_enter_2 18 = .ok (.ifCond .ne 9, 3) := dk_154 0 9 (dk_at dksX4_enter_2_0 18 rfl rfl)
theorem dX4_enter_2_21 : decode cX4_enter_2 21 = .ok (.aload_n 0, 1) := dk_42 (dk_at dksX4_enter_2_0 21 rfl rfl)
theorem dX4_enter_2_22 : decode cX4_enter_2 22 = .ok (.iconst 1, 1) := dk_4 (dk_at dksX4_enter_2_0 22 rfl rfl)
theorem dX4_enter_2_23 : decode cX4_enter_2 23 = .ok (.invokevirtual 378, 3) := dk_182 1 122 (dk_at dksX4_enter_2_1 0 rfl rfl)
theorem dX4_enter_2_26 : decode cX4_enter_2 26 = .ok (.ireturn, 1) := dk_172 (dk_at dksX4_enter_2_1 3 rfl rfl)
theorem dX4_enter_2_27 : decode cX4_enter_2 27 = .ok (.aload_n 0, 1) := dk_42 (dk_at dksX4_enter_2_1 4 rfl rfl)
theorem dX4_enter_2_28 : decode cX4_enter_2 28 = .ok (.aload_n 0, 1) := dk_42 (dk_at dksX4_enter_2_1 5 rfl rfl)
theorem dX4_enter_2_29 : decode cX4_enter_2 29 = .ok (.getfield 27, 3) := dk_180 0 27 (dk_at dksX4_enter_2_1 6 rfl rfl)
theorem dX4_enter_2_32 : decode cX4_enter_2 32 = .ok (.invokevirtual 400, 3) := dk_182 1 144 (dk_at dksX4_enter_2_1 9 rfl rfl)
theorem dX4_enter_2_35 : decode cX4_enter_2 35 = .ok (.iconst 0, 1) := dk_3 (dk_at dksX4_enter_2_1 12 rfl rfl)
theorem dX4_enter_2_36 : decode cX4_enter_2 36 = .ok (.istore_n 3, 1) := dk_62 (dk_at dksX4_enter_2_1 13 rfl rfl)
theorem dX4_enter_2_37 : decode cX4_enter_2 37 = .ok (.iload_n 3, 1) := dk_29 (dk_at dksX4_enter_2_1 14 rfl rfl)
theorem dX4_enter_2_38 : decode cX4_enter_2 38 = .ok (.bipush 12, 2) := dk_16 12 (dk_at dksX4_enter_2_1 15 rfl rfl)
theorem dX4_enter_2_40 : decode cX4_enter_2 40 = .ok (.if_icmp .gt 21, 3) := dk_163 0 21 (dk_at dksX4_enter_2_1 17 rfl rfl)
theorem dX4_enter_2_43 : decode cX4_enter_2 43 = .ok (.aload_n 0, 1) := dk_42 (dk_at dksX4_enter_2_1 20 rfl rfl)
theorem dX4_enter_2_44 : decode cX4_enter_2 44 = .ok (.iload_n 1, 1) := dk_27 (dk_at dksX4_enter_2_1 21 rfl rfl)
theorem dX4_enter_2_45 : decode cX4_enter_2 45 = .ok (.iload_n 2, 1) := dk_28 (dk_at dksX4_enter_2_1 22 rfl rfl)
theorem dX4_enter_2_46 : decode cX4_enter_2 46 = .ok (.iload_n 3, 1) := dk_29 (dk_at dksX4_enter_2_1 23 rfl rfl)
theorem dX4_enter_2_47 : decode cX4_enter_2 47 = .ok (.invokevirtual 438, 3) := dk_182 1 182 (dk_at dksX4_enter_2_2 0 rfl rfl)
theorem dX4_enter_2_50 : decode cX4_enter_2 50 = .ok (.ifCond .eq 5, 3) := dk_153 0 5 (dk_at dksX4_enter_2_2 3 rfl rfl)
theorem dX4_enter_2_53 : decode cX4_enter_2 53 = .ok (.iload_n 3, 1) := dk_29 (dk_at dksX4_enter_2_2 6 rfl rfl)
theorem dX4_enter_2_54 : decode cX4_enter_2 54 = .ok (.ireturn, 1) := dk_172 (dk_at dksX4_enter_2_2 7 rfl rfl)
theorem dX4_enter_2_55 : decode cX4_enter_2 55 = .ok (.iinc 3 1, 3) := dk_132 3 1 (dk_at dksX4_enter_2_2 8 rfl rfl)
theorem dX4_enter_2_58 : decode cX4_enter_2 58 = .ok (.goto (-21), 3) := dk_167 255 235 (dk_at dksX4_enter_2_2 11 rfl rfl)
theorem dX4_enter_2_61 : decode cX4_enter_2 61 = .ok (.iconst (-1), 1) := dk_2 (dk_at dksX4_enter_2_2 14 rfl rfl)
theorem dX4_enter_2_62 : decode cX4_enter_2 62 = .ok (.ireturn, 1) := dk_172 (dk_at dksX4_enter_2_2 15 rfl rfl)
abbrev cX4_entersBy : ByteArray := prog_40_method_96_code
def yX4_entersBy : MethodName := ⟨RX4, "entersBy", "(III)Z"⟩
def dkwX4_entersBy_3 : List UInt8 := [27, 46, 21, 5, 100, 28, 182, 0, 125, 4, 160, 0, 5, 4, 172, 132, 4, 1, 167, 255, 170, 3, 172]
abbrev dktX4_entersBy_3 : List UInt8 := dkwX4_entersBy_3 ++ []
def dkwX4_entersBy_2 : List UInt8 := [4, 159, 0, 36, 42, 42, 180, 0, 44, 180, 0, 85, 27, 46, 21, 4, 96, 42, 180, 0, 44, 180, 0, 88]
abbrev dktX4_entersBy_2 : List UInt8 := dkwX4_entersBy_2 ++ dktX4_entersBy_3
def dkwX4_entersBy_1 : List UInt8 := [180, 0, 85, 27, 46, 21, 4, 96, 42, 180, 0, 44, 180, 0, 88, 27, 46, 21, 5, 96, 28, 182, 0, 125]
abbrev dktX4_entersBy_1 : List UInt8 := dkwX4_entersBy_1 ++ dktX4_entersBy_2
def dkwX4_entersBy_0 : List UInt8 := [29, 116, 54, 4, 21, 4, 29, 163, 0, 86, 29, 21, 4, 184, 0, 103, 100, 54, 5, 42, 42, 180, 0, 44]
abbrev dktX4_entersBy_0 : List UInt8 := dkwX4_entersBy_0 ++ dktX4_entersBy_1
theorem dksX4_entersBy_0 : cX4_entersBy.data.toList.drop 0 = dktX4_entersBy_0 := by decide +kernel
theorem dksX4_entersBy_1 : cX4_entersBy.data.toList.drop 24 = dktX4_entersBy_1 := dk_seg dksX4_entersBy_0 24 rfl rfl
theorem dksX4_entersBy_2 : cX4_entersBy.data.toList.drop 48 = dktX4_entersBy_2 := dk_seg dksX4_entersBy_1 24 rfl rfl
theorem dksX4_entersBy_3 : cX4_entersBy.data.toList.drop 72 = dktX4_entersBy_3 := dk_seg dksX4_entersBy_2 24 rfl rfl
theorem dX4_entersBy_0 : decode cX4_entersBy 0 = .ok (.iload_n 3, 1) := dk_29 (dk_at dksX4_entersBy_0 0 rfl rfl)
theorem dX4_entersBy_1 : decode cX4_entersBy 1 = .ok (.ineg, 1) := dk_116 (dk_at dksX4_entersBy_0 1 rfl rfl)
theorem dX4_entersBy_2 : decode cX4_entersBy 2 = .ok (.istore 4, 2) := dk_54 4 (dk_at dksX4_entersBy_0 2 rfl rfl)
theorem dX4_entersBy_4 : decode cX4_entersBy 4 = .ok (.iload 4, 2) := dk_21 4 (dk_at dksX4_entersBy_0 4 rfl rfl)
theorem dX4_entersBy_6 : decode cX4_entersBy 6 = .ok (.iload_n 3, 1) := dk_29 (dk_at dksX4_entersBy_0 6 rfl rfl)
theorem dX4_entersBy_7 : decode cX4_entersBy 7 = .ok (.if_icmp .gt 86, 3) := dk_163 0 86 (dk_at dksX4_entersBy_0 7 rfl rfl)
theorem dX4_entersBy_10 : decode cX4_entersBy 10 = .ok (.iload_n 3, 1) := dk_29 (dk_at dksX4_entersBy_0 10 rfl rfl)
theorem dX4_entersBy_11 : decode cX4_entersBy 11 = .ok (.iload 4, 2) := dk_21 4 (dk_at dksX4_entersBy_0 11 rfl rfl)
theorem dX4_entersBy_13 : decode cX4_entersBy 13 = .ok (.invokestatic 103, 3) := dk_184 0 103 (dk_at dksX4_entersBy_0 13 rfl rfl)
theorem dX4_entersBy_16 : decode cX4_entersBy 16 = .ok (.isub, 1) := dk_100 (dk_at dksX4_entersBy_0 16 rfl rfl)
theorem dX4_entersBy_17 : decode cX4_entersBy 17 = .ok (.istore 5, 2) := dk_54 5 (dk_at dksX4_entersBy_0 17 rfl rfl)
theorem dX4_entersBy_19 : decode cX4_entersBy 19 = .ok (.aload_n 0, 1) := dk_42 (dk_at dksX4_entersBy_0 19 rfl rfl)
theorem dX4_entersBy_20 : decode cX4_entersBy 20 = .ok (.aload_n 0, 1) := dk_42 (dk_at dksX4_entersBy_0 20 rfl rfl)
theorem dX4_entersBy_21 : decode cX4_entersBy 21 = .ok (.getfield 44, 3) := dk_180 0 44 (dk_at dksX4_entersBy_0 21 rfl rfl)
theorem dX4_entersBy_24 : decode cX4_entersBy 24 = .ok (.getfield 85, 3) := dk_180 0 85 (dk_at dksX4_entersBy_1 0 rfl rfl)
theorem dX4_entersBy_27 : decode cX4_entersBy 27 = .ok (.iload_n 1, 1) := dk_27 (dk_at dksX4_entersBy_1 3 rfl rfl)
theorem dX4_entersBy_28 : decode cX4_entersBy 28 = .ok (.iaload, 1) := dk_46 (dk_at dksX4_entersBy_1 4 rfl rfl)
theorem dX4_entersBy_29 : decode cX4_entersBy 29 = .ok (.iload 4, 2) := dk_21 4 (dk_at dksX4_entersBy_1 5 rfl rfl)
theorem dX4_entersBy_31 : decode cX4_entersBy 31 = .ok (.iadd, 1) := dk_96 (dk_at dksX4_entersBy_1 7 rfl rfl)
theorem dX4_entersBy_32 : decode cX4_entersBy 32 = .ok (.aload_n 0, 1) := dk_42 (dk_at dksX4_entersBy_1 8 rfl rfl)
theorem dX4_entersBy_33 : decode cX4_entersBy 33 = .ok (.getfield 44, 3) := dk_180 0 44 (dk_at dksX4_entersBy_1 9 rfl rfl)
theorem dX4_entersBy_36 : decode cX4_entersBy 36 = .ok (.getfield 88, 3) := dk_180 0 88 (dk_at dksX4_entersBy_1 12 rfl rfl)
theorem dX4_entersBy_39 : decode cX4_entersBy 39 = .ok (.iload_n 1, 1) := dk_27 (dk_at dksX4_entersBy_1 15 rfl rfl)
theorem dX4_entersBy_40 : decode cX4_entersBy 40 = .ok (.iaload, 1) := dk_46 (dk_at dksX4_entersBy_1 16 rfl rfl)
theorem dX4_entersBy_41 : decode cX4_entersBy 41 = .ok (.iload 5, 2) := dk_21 5 (dk_at dksX4_entersBy_1 17 rfl rfl)
theorem dX4_entersBy_43 : decode cX4_entersBy 43 = .ok (.iadd, 1) := dk_96 (dk_at dksX4_entersBy_1 19 rfl rfl)
theorem dX4_entersBy_44 : decode cX4_entersBy 44 = .ok (.iload_n 2, 1) := dk_28 (dk_at dksX4_entersBy_1 20 rfl rfl)
theorem dX4_entersBy_45 : decode cX4_entersBy 45 = .ok (.invokevirtual 125, 3) := dk_182 0 125 (dk_at dksX4_entersBy_1 21 rfl rfl)
theorem dX4_entersBy_48 : decode cX4_entersBy 48 = .ok (.iconst 1, 1) := dk_4 (dk_at dksX4_entersBy_2 0 rfl rfl)
theorem dX4_entersBy_49 : decode cX4_entersBy 49 = .ok (.if_icmp .eq 36, 3) := dk_159 0 36 (dk_at dksX4_entersBy_2 1 rfl rfl)
theorem dX4_entersBy_52 : decode cX4_entersBy 52 = .ok (.aload_n 0, 1) := dk_42 (dk_at dksX4_entersBy_2 4 rfl rfl)
theorem dX4_entersBy_53 : decode cX4_entersBy 53 = .ok (.aload_n 0, 1) := dk_42 (dk_at dksX4_entersBy_2 5 rfl rfl)
theorem dX4_entersBy_54 : decode cX4_entersBy 54 = .ok (.getfield 44, 3) := dk_180 0 44 (dk_at dksX4_entersBy_2 6 rfl rfl)
theorem dX4_entersBy_57 : decode cX4_entersBy 57 = .ok (.getfield 85, 3) := dk_180 0 85 (dk_at dksX4_entersBy_2 9 rfl rfl)
theorem dX4_entersBy_60 : decode cX4_entersBy 60 = .ok (.iload_n 1, 1) := dk_27 (dk_at dksX4_entersBy_2 12 rfl rfl)
theorem dX4_entersBy_61 : decode cX4_entersBy 61 = .ok (.iaload, 1) := dk_46 (dk_at dksX4_entersBy_2 13 rfl rfl)
theorem dX4_entersBy_62 : decode cX4_entersBy 62 = .ok (.iload 4, 2) := dk_21 4 (dk_at dksX4_entersBy_2 14 rfl rfl)
theorem dX4_entersBy_64 : decode cX4_entersBy 64 = .ok (.iadd, 1) := dk_96 (dk_at dksX4_entersBy_2 16 rfl rfl)
theorem dX4_entersBy_65 : decode cX4_entersBy 65 = .ok (.aload_n 0, 1) := dk_42 (dk_at dksX4_entersBy_2 17 rfl rfl)
theorem dX4_entersBy_66 : decode cX4_entersBy 66 = .ok (.getfield 44, 3) := dk_180 0 44 (dk_at dksX4_entersBy_2 18 rfl rfl)
theorem dX4_entersBy_69 : decode cX4_entersBy 69 = .ok (.getfield 88, 3) := dk_180 0 88 (dk_at dksX4_entersBy_2 21 rfl rfl)
theorem dX4_entersBy_72 : decode cX4_entersBy 72 = .ok (.iload_n 1, 1) := dk_27 (dk_at dksX4_entersBy_3 0 rfl rfl)
theorem dX4_entersBy_73 : decode cX4_entersBy 73 = .ok (.iaload, 1) := dk_46 (dk_at dksX4_entersBy_3 1 rfl rfl)
theorem dX4_entersBy_74 : decode cX4_entersBy 74 = .ok (.iload 5, 2) := dk_21 5 (dk_at dksX4_entersBy_3 2 rfl rfl)
theorem dX4_entersBy_76 : decode cX4_entersBy 76 = .ok (.isub, 1) := dk_100 (dk_at dksX4_entersBy_3 4 rfl rfl)
theorem dX4_entersBy_77 : decode cX4_entersBy 77 = .ok (.iload_n 2, 1) := dk_28 (dk_at dksX4_entersBy_3 5 rfl rfl)
theorem dX4_entersBy_78 : decode cX4_entersBy 78 = .ok (.invokevirtual 125, 3) := dk_182 0 125 (dk_at dksX4_entersBy_3 6 rfl rfl)
theorem dX4_entersBy_81 : decode cX4_entersBy 81 = .ok (.iconst 1, 1) := dk_4 (dk_at dksX4_entersBy_3 9 rfl rfl)
theorem dX4_entersBy_82 : decode cX4_entersBy 82 = .ok (.if_icmp .ne 5, 3) := dk_160 0 5 (dk_at dksX4_entersBy_3 10 rfl rfl)
theorem dX4_entersBy_85 : decode cX4_entersBy 85 = .ok (.iconst 1, 1) := dk_4 (dk_at dksX4_entersBy_3 13 rfl rfl)
theorem dX4_entersBy_86 : decode cX4_entersBy 86 = .ok (.ireturn, 1) := dk_172 (dk_at dksX4_entersBy_3 14 rfl rfl)
theorem dX4_entersBy_87 : decode cX4_entersBy 87 = .ok (.iinc 4 1, 3) := dk_132 4 1 (dk_at dksX4_entersBy_3 15 rfl rfl)
theorem dX4_entersBy_90 : decode cX4_entersBy 90 = .ok (.goto (-86), 3) := dk_167 255 170 (dk_at dksX4_entersBy_3 18 rfl rfl)
theorem dX4_entersBy_93 : decode cX4_entersBy 93 = .ok (.iconst 0, 1) := dk_3 (dk_at dksX4_entersBy_3 21 rfl rfl)
theorem dX4_entersBy_94 : decode cX4_entersBy 94 = .ok (.ireturn, 1) := dk_172 (dk_at dksX4_entersBy_3 22 rfl rfl)
abbrev cX4_put : ByteArray := prog_40_method_98_code
def yX4_put : MethodName := ⟨RX4, "put", "(III)I"⟩
def dkwX4_put_4 : List UInt8 := [79, 42, 180, 0, 27, 180, 0, 88, 27, 29, 79, 21, 4, 21, 4, 104, 21, 5, 21, 5, 104, 96, 172]
abbrev dktX4_put_4 : List UInt8 := dkwX4_put_4 ++ []
def dkwX4_put_3 : List UInt8 := [54, 4, 29, 42, 180, 0, 27, 180, 0, 88, 27, 46, 100, 54, 5, 42, 180, 0, 27, 180, 0, 85, 27, 28]
abbrev dktX4_put_3 : List UInt8 := dkwX4_put_3 ++ dktX4_put_4
def dkwX4_put_2 : List UInt8 := [182, 1, 122, 172, 42, 42, 180, 0, 27, 182, 1, 185, 28, 42, 180, 0, 27, 180, 0, 85, 27, 46, 100]
abbrev dktX4_put_2 : List UInt8 := dkwX4_put_2 ++ dktX4_put_3
def dkwX4_put_1 : List UInt8 := [17, 3, 231, 184, 0, 69, 153, 0, 16, 29, 17, 252, 25, 17, 3, 231, 184, 0, 69, 154, 0, 9, 42, 5]
abbrev dktX4_put_1 : List UInt8 := dkwX4_put_1 ++ dktX4_put_2
def dkwX4_put_0 : List UInt8 := [42, 3, 181, 0, 50, 42, 27, 182, 1, 153, 154, 0, 9, 42, 4, 182, 1, 122, 172, 28, 17, 252, 25]
abbrev dktX4_put_0 : List UInt8 := dkwX4_put_0 ++ dktX4_put_1
theorem dksX4_put_0 : cX4_put.data.toList.drop 0 = dktX4_put_0 := by decide +kernel
theorem dksX4_put_1 : cX4_put.data.toList.drop 23 = dktX4_put_1 := dk_seg dksX4_put_0 23 rfl rfl
theorem dksX4_put_2 : cX4_put.data.toList.drop 47 = dktX4_put_2 := dk_seg dksX4_put_1 24 rfl rfl
theorem dksX4_put_3 : cX4_put.data.toList.drop 70 = dktX4_put_3 := dk_seg dksX4_put_2 23 rfl rfl
theorem dksX4_put_4 : cX4_put.data.toList.drop 94 = dktX4_put_4 := dk_seg dksX4_put_3 24 rfl rfl
theorem dX4_put_0 : decode cX4_put 0 = .ok (.aload_n 0, 1) := dk_42 (dk_at dksX4_put_0 0 rfl rfl)
theorem dX4_put_1 : decode cX4_put 1 = .ok (.iconst 0, 1) := dk_3 (dk_at dksX4_put_0 1 rfl rfl)
theorem dX4_put_2 : decode cX4_put 2 = .ok (.putfield 50, 3) := dk_181 0 50 (dk_at dksX4_put_0 2 rfl rfl)
theorem dX4_put_5 : decode cX4_put 5 = .ok (.aload_n 0, 1) := dk_42 (dk_at dksX4_put_0 5 rfl rfl)
theorem dX4_put_6 : decode cX4_put 6 = .ok (.iload_n 1, 1) := dk_27 (dk_at dksX4_put_0 6 rfl rfl)
theorem dX4_put_7 : decode cX4_put 7 = .ok (.invokevirtual 409, 3) := dk_182 1 153 (dk_at dksX4_put_0 7 rfl rfl)
theorem dX4_put_10 : decode cX4_put 10 = .ok (.ifCond .ne 9, 3) := dk_154 0 9 (dk_at dksX4_put_0 10 rfl rfl)
theorem dX4_put_13 : decode cX4_put 13 = .ok (.aload_n 0, 1) := dk_42 (dk_at dksX4_put_0 13 rfl rfl)
theorem dX4_put_14 : decode cX4_put 14 = .ok (.iconst 1, 1) := dk_4 (dk_at dksX4_put_0 14 rfl rfl)
theorem dX4_put_15 : decode cX4_put 15 = .ok (.invokevirtual 378, 3) := dk_182 1 122 (dk_at dksX4_put_0 15 rfl rfl)
theorem dX4_put_18 : decode cX4_put 18 = .ok (.ireturn, 1) := dk_172 (dk_at dksX4_put_0 18 rfl rfl)
theorem dX4_put_19 : decode cX4_put 19 = .ok (.iload_n 2, 1) := dk_28 (dk_at dksX4_put_0 19 rfl rfl)
theorem dX4_put_20 : decode cX4_put 20 = .ok (.sipush (-999), 3) := dk_17 252 25 (dk_at dksX4_put_0 20 rfl rfl)
theorem dX4_put_23 : decode cX4_put 23 = .ok (.sipush 999, 3) := dk_17 3 231 (dk_at dksX4_put_1 0 rfl rfl)
theorem dX4_put_26 : decode cX4_put 26 = .ok (.invokestatic 69, 3) := dk_184 0 69 (dk_at dksX4_put_1 3 rfl rfl)
theorem dX4_put_29 : decode cX4_put 29 = .ok (.ifCond .eq 16, 3) := dk_153 0 16 (dk_at dksX4_put_1 6 rfl rfl)
theorem dX4_put_32 : decode cX4_put 32 = .ok (.iload_n 3, 1) := dk_29 (dk_at dksX4_put_1 9 rfl rfl)
theorem dX4_put_33 : decode cX4_put 33 = .ok (.sipush (-999), 3) := dk_17 252 25 (dk_at dksX4_put_1 10 rfl rfl)
theorem dX4_put_36 : decode cX4_put 36 = .ok (.sipush 999, 3) := dk_17 3 231 (dk_at dksX4_put_1 13 rfl rfl)
theorem dX4_put_39 : decode cX4_put 39 = .ok (.invokestatic 69, 3) := dk_184 0 69 (dk_at dksX4_put_1 16 rfl rfl)
theorem dX4_put_42 : decode cX4_put 42 = .ok (.ifCond .ne 9, 3) := dk_154 0 9 (dk_at dksX4_put_1 19 rfl rfl)
theorem dX4_put_45 : decode cX4_put 45 = .ok (.aload_n 0, 1) := dk_42 (dk_at dksX4_put_1 22 rfl rfl)
theorem dX4_put_46 : decode cX4_put 46 = .ok (.iconst 2, 1) := dk_5 (dk_at dksX4_put_1 23 rfl rfl)
theorem dX4_put_47 : decode cX4_put 47 = .ok (.invokevirtual 378, 3) := dk_182 1 122 (dk_at dksX4_put_2 0 rfl rfl)
theorem dX4_put_50 : decode cX4_put 50 = .ok (.ireturn, 1) := dk_172 (dk_at dksX4_put_2 3 rfl rfl)
theorem dX4_put_51 : decode cX4_put 51 = .ok (.aload_n 0, 1) := dk_42 (dk_at dksX4_put_2 4 rfl rfl)
theorem dX4_put_52 : decode cX4_put 52 = .ok (.aload_n 0, 1) := dk_42 (dk_at dksX4_put_2 5 rfl rfl)
theorem dX4_put_53 : decode cX4_put 53 = .ok (.getfield 27, 3) := dk_180 0 27 (dk_at dksX4_put_2 6 rfl rfl)
theorem dX4_put_56 : decode cX4_put 56 = .ok (.invokevirtual 441, 3) := dk_182 1 185 (dk_at dksX4_put_2 9 rfl rfl)
theorem dX4_put_59 : decode cX4_put 59 = .ok (.iload_n 2, 1) := dk_28 (dk_at dksX4_put_2 12 rfl rfl)
theorem dX4_put_60 : decode cX4_put 60 = .ok (.aload_n 0, 1) := dk_42 (dk_at dksX4_put_2 13 rfl rfl)
theorem dX4_put_61 : decode cX4_put 61 = .ok (.getfield 27, 3) := dk_180 0 27 (dk_at dksX4_put_2 14 rfl rfl)
theorem dX4_put_64 : decode cX4_put 64 = .ok (.getfield 85, 3) := dk_180 0 85 (dk_at dksX4_put_2 17 rfl rfl)
theorem dX4_put_67 : decode cX4_put 67 = .ok (.iload_n 1, 1) := dk_27 (dk_at dksX4_put_2 20 rfl rfl)
theorem dX4_put_68 : decode cX4_put 68 = .ok (.iaload, 1) := dk_46 (dk_at dksX4_put_2 21 rfl rfl)
theorem dX4_put_69 : decode cX4_put 69 = .ok (.isub, 1) := dk_100 (dk_at dksX4_put_2 22 rfl rfl)
theorem dX4_put_70 : decode cX4_put 70 = .ok (.istore 4, 2) := dk_54 4 (dk_at dksX4_put_3 0 rfl rfl)
theorem dX4_put_72 : decode cX4_put 72 = .ok (.iload_n 3, 1) := dk_29 (dk_at dksX4_put_3 2 rfl rfl)
theorem dX4_put_73 : decode cX4_put 73 = .ok (.aload_n 0, 1) := dk_42 (dk_at dksX4_put_3 3 rfl rfl)
theorem dX4_put_74 : decode cX4_put 74 = .ok (.getfield 27, 3) := dk_180 0 27 (dk_at dksX4_put_3 4 rfl rfl)
theorem dX4_put_77 : decode cX4_put 77 = .ok (.getfield 88, 3) := dk_180 0 88 (dk_at dksX4_put_3 7 rfl rfl)
theorem dX4_put_80 : decode cX4_put 80 = .ok (.iload_n 1, 1) := dk_27 (dk_at dksX4_put_3 10 rfl rfl)
theorem dX4_put_81 : decode cX4_put 81 = .ok (.iaload, 1) := dk_46 (dk_at dksX4_put_3 11 rfl rfl)
theorem dX4_put_82 : decode cX4_put 82 = .ok (.isub, 1) := dk_100 (dk_at dksX4_put_3 12 rfl rfl)
theorem dX4_put_83 : decode cX4_put 83 = .ok (.istore 5, 2) := dk_54 5 (dk_at dksX4_put_3 13 rfl rfl)
theorem dX4_put_85 : decode cX4_put 85 = .ok (.aload_n 0, 1) := dk_42 (dk_at dksX4_put_3 15 rfl rfl)
theorem dX4_put_86 : decode cX4_put 86 = .ok (.getfield 27, 3) := dk_180 0 27 (dk_at dksX4_put_3 16 rfl rfl)
theorem dX4_put_89 : decode cX4_put 89 = .ok (.getfield 85, 3) := dk_180 0 85 (dk_at dksX4_put_3 19 rfl rfl)
theorem dX4_put_92 : decode cX4_put 92 = .ok (.iload_n 1, 1) := dk_27 (dk_at dksX4_put_3 22 rfl rfl)
theorem dX4_put_93 : decode cX4_put 93 = .ok (.iload_n 2, 1) := dk_28 (dk_at dksX4_put_3 23 rfl rfl)
theorem dX4_put_94 : decode cX4_put 94 = .ok (.iastore, 1) := dk_79 (dk_at dksX4_put_4 0 rfl rfl)
theorem dX4_put_95 : decode cX4_put 95 = .ok (.aload_n 0, 1) := dk_42 (dk_at dksX4_put_4 1 rfl rfl)
theorem dX4_put_96 : decode cX4_put 96 = .ok (.getfield 27, 3) := dk_180 0 27 (dk_at dksX4_put_4 2 rfl rfl)
theorem dX4_put_99 : decode cX4_put 99 = .ok (.getfield 88, 3) := dk_180 0 88 (dk_at dksX4_put_4 5 rfl rfl)
theorem dX4_put_102 : decode cX4_put 102 = .ok (.iload_n 1, 1) := dk_27 (dk_at dksX4_put_4 8 rfl rfl)
theorem dX4_put_103 : decode cX4_put 103 = .ok (.iload_n 3, 1) := dk_29 (dk_at dksX4_put_4 9 rfl rfl)
theorem dX4_put_104 : decode cX4_put 104 = .ok (.iastore, 1) := dk_79 (dk_at dksX4_put_4 10 rfl rfl)
theorem dX4_put_105 : decode cX4_put 105 = .ok (.iload 4, 2) := dk_21 4 (dk_at dksX4_put_4 11 rfl rfl)
theorem dX4_put_107 : decode cX4_put 107 = .ok (.iload 4, 2) := dk_21 4 (dk_at dksX4_put_4 13 rfl rfl)
theorem dX4_put_109 : decode cX4_put 109 = .ok (.imul, 1) := dk_104 (dk_at dksX4_put_4 15 rfl rfl)
theorem dX4_put_110 : decode cX4_put 110 = .ok (.iload 5, 2) := dk_21 5 (dk_at dksX4_put_4 16 rfl rfl)
theorem dX4_put_112 : decode cX4_put 112 = .ok (.iload 5, 2) := dk_21 5 (dk_at dksX4_put_4 18 rfl rfl)
theorem dX4_put_114 : decode cX4_put 114 = .ok (.imul, 1) := dk_104 (dk_at dksX4_put_4 20 rfl rfl)
theorem dX4_put_115 : decode cX4_put 115 = .ok (.iadd, 1) := dk_96 (dk_at dksX4_put_4 21 rfl rfl)
theorem dX4_put_116 : decode cX4_put 116 = .ok (.ireturn, 1) := dk_172 (dk_at dksX4_put_4 22 rfl rfl)
abbrev cX4_keep : ByteArray := prog_40_method_33_code
def yX4_keep : MethodName := ⟨RX4, "keep", "(LGridTableModel$Places;)V"⟩
def dkwX4_keep_2 : List UInt8 := [180, 0, 189, 96, 4, 100, 16, 12, 112, 50, 43, 182, 0, 195, 177]
abbrev dktX4_keep_2 : List UInt8 := dkwX4_keep_2 ++ []
def dkwX4_keep_1 : List UInt8 := [167, 0, 13, 42, 89, 180, 0, 189, 4, 96, 181, 0, 189, 42, 180, 0, 37, 42, 180, 0, 192, 42]
abbrev dktX4_keep_1 : List UInt8 := dkwX4_keep_1 ++ dktX4_keep_2
def dkwX4_keep_0 : List UInt8 := [42, 180, 0, 189, 16, 12, 160, 0, 19, 42, 42, 180, 0, 192, 4, 96, 16, 12, 112, 181, 0, 192]
abbrev dktX4_keep_0 : List UInt8 := dkwX4_keep_0 ++ dktX4_keep_1
theorem dksX4_keep_0 : cX4_keep.data.toList.drop 0 = dktX4_keep_0 := by decide +kernel
theorem dksX4_keep_1 : cX4_keep.data.toList.drop 22 = dktX4_keep_1 := dk_seg dksX4_keep_0 22 rfl rfl
theorem dksX4_keep_2 : cX4_keep.data.toList.drop 44 = dktX4_keep_2 := dk_seg dksX4_keep_1 22 rfl rfl
theorem dX4_keep_0 : decode cX4_keep 0 = .ok (.aload_n 0, 1) := dk_42 (dk_at dksX4_keep_0 0 rfl rfl)
theorem dX4_keep_1 : decode cX4_keep 1 = .ok (.getfield 189, 3) := dk_180 0 189 (dk_at dksX4_keep_0 1 rfl rfl)
theorem dX4_keep_4 : decode cX4_keep 4 = .ok (.bipush 12, 2) := dk_16 12 (dk_at dksX4_keep_0 4 rfl rfl)
theorem dX4_keep_6 : decode cX4_keep 6 = .ok (.if_icmp .ne 19, 3) := dk_160 0 19 (dk_at dksX4_keep_0 6 rfl rfl)
theorem dX4_keep_9 : decode cX4_keep 9 = .ok (.aload_n 0, 1) := dk_42 (dk_at dksX4_keep_0 9 rfl rfl)
theorem dX4_keep_10 : decode cX4_keep 10 = .ok (.aload_n 0, 1) := dk_42 (dk_at dksX4_keep_0 10 rfl rfl)
theorem dX4_keep_11 : decode cX4_keep 11 = .ok (.getfield 192, 3) := dk_180 0 192 (dk_at dksX4_keep_0 11 rfl rfl)
theorem dX4_keep_14 : decode cX4_keep 14 = .ok (.iconst 1, 1) := dk_4 (dk_at dksX4_keep_0 14 rfl rfl)
theorem dX4_keep_15 : decode cX4_keep 15 = .ok (.iadd, 1) := dk_96 (dk_at dksX4_keep_0 15 rfl rfl)
theorem dX4_keep_16 : decode cX4_keep 16 = .ok (.bipush 12, 2) := dk_16 12 (dk_at dksX4_keep_0 16 rfl rfl)
theorem dX4_keep_18 : decode cX4_keep 18 = .ok (.irem, 1) := dk_112 (dk_at dksX4_keep_0 18 rfl rfl)
theorem dX4_keep_19 : decode cX4_keep 19 = .ok (.putfield 192, 3) := dk_181 0 192 (dk_at dksX4_keep_0 19 rfl rfl)
theorem dX4_keep_22 : decode cX4_keep 22 = .ok (.goto 13, 3) := dk_167 0 13 (dk_at dksX4_keep_1 0 rfl rfl)
theorem dX4_keep_25 : decode cX4_keep 25 = .ok (.aload_n 0, 1) := dk_42 (dk_at dksX4_keep_1 3 rfl rfl)
theorem dX4_keep_26 : decode cX4_keep 26 = .ok (.dup, 1) := dk_89 (dk_at dksX4_keep_1 4 rfl rfl)
theorem dX4_keep_27 : decode cX4_keep 27 = .ok (.getfield 189, 3) := dk_180 0 189 (dk_at dksX4_keep_1 5 rfl rfl)
theorem dX4_keep_30 : decode cX4_keep 30 = .ok (.iconst 1, 1) := dk_4 (dk_at dksX4_keep_1 8 rfl rfl)
theorem dX4_keep_31 : decode cX4_keep 31 = .ok (.iadd, 1) := dk_96 (dk_at dksX4_keep_1 9 rfl rfl)
theorem dX4_keep_32 : decode cX4_keep 32 = .ok (.putfield 189, 3) := dk_181 0 189 (dk_at dksX4_keep_1 10 rfl rfl)
theorem dX4_keep_35 : decode cX4_keep 35 = .ok (.aload_n 0, 1) := dk_42 (dk_at dksX4_keep_1 13 rfl rfl)
theorem dX4_keep_36 : decode cX4_keep 36 = .ok (.getfield 37, 3) := dk_180 0 37 (dk_at dksX4_keep_1 14 rfl rfl)
theorem dX4_keep_39 : decode cX4_keep 39 = .ok (.aload_n 0, 1) := dk_42 (dk_at dksX4_keep_1 17 rfl rfl)
theorem dX4_keep_40 : decode cX4_keep 40 = .ok (.getfield 192, 3) := dk_180 0 192 (dk_at dksX4_keep_1 18 rfl rfl)
theorem dX4_keep_43 : decode cX4_keep 43 = .ok (.aload_n 0, 1) := dk_42 (dk_at dksX4_keep_1 21 rfl rfl)
theorem dX4_keep_44 : decode cX4_keep 44 = .ok (.getfield 189, 3) := dk_180 0 189 (dk_at dksX4_keep_2 0 rfl rfl)
theorem dX4_keep_47 : decode cX4_keep 47 = .ok (.iadd, 1) := dk_96 (dk_at dksX4_keep_2 3 rfl rfl)
theorem dX4_keep_48 : decode cX4_keep 48 = .ok (.iconst 1, 1) := dk_4 (dk_at dksX4_keep_2 4 rfl rfl)
theorem dX4_keep_49 : decode cX4_keep 49 = .ok (.isub, 1) := dk_100 (dk_at dksX4_keep_2 5 rfl rfl)
theorem dX4_keep_50 : decode cX4_keep 50 = .ok (.bipush 12, 2) := dk_16 12 (dk_at dksX4_keep_2 6 rfl rfl)
theorem dX4_keep_52 : decode cX4_keep 52 = .ok (.irem, 1) := dk_112 (dk_at dksX4_keep_2 8 rfl rfl)
theorem dX4_keep_53 : decode cX4_keep 53 = .ok (.aaload, 1) := dk_50 (dk_at dksX4_keep_2 9 rfl rfl)
theorem dX4_keep_54 : decode cX4_keep 54 = .ok (.aload_n 1, 1) := dk_43 (dk_at dksX4_keep_2 10 rfl rfl)
theorem dX4_keep_55 : decode cX4_keep 55 = .ok (.invokevirtual 195, 3) := dk_182 0 195 (dk_at dksX4_keep_2 11 rfl rfl)
theorem dX4_keep_58 : decode cX4_keep 58 = .ok (.return_, 1) := dk_177 (dk_at dksX4_keep_2 14 rfl rfl)
abbrev cX4_carry : ByteArray := prog_40_method_99_code
def yX4_carry : MethodName := ⟨RX4, "carry", "(I)Z"⟩
def dkwX4_carry_3 : List UInt8 := [96, 79, 42, 89, 180, 1, 129, 4, 96, 181, 1, 129, 4, 172]
abbrev dktX4_carry_3 : List UInt8 := dkwX4_carry_3 ++ []
def dkwX4_carry_2 : List UInt8 := [182, 0, 186, 154, 0, 5, 3, 172, 42, 42, 180, 0, 31, 182, 1, 185, 42, 180, 0, 34, 27, 92, 46, 4]
abbrev dktX4_carry_2 : List UInt8 := dkwX4_carry_2 ++ dktX4_carry_3
def dkwX4_carry_1 : List UInt8 := [3, 172, 42, 180, 0, 31, 42, 180, 0, 27, 182, 0, 195, 42, 42, 180, 0, 27, 182, 1, 144, 42, 27]
abbrev dktX4_carry_1 : List UInt8 := dkwX4_carry_1 ++ dktX4_carry_2
def dkwX4_carry_0 : List UInt8 := [42, 42, 27, 182, 1, 188, 153, 0, 7, 3, 167, 0, 4, 4, 181, 0, 50, 42, 180, 0, 50, 153, 0, 5]
abbrev dktX4_carry_0 : List UInt8 := dkwX4_carry_0 ++ dktX4_carry_1
theorem dksX4_carry_0 : cX4_carry.data.toList.drop 0 = dktX4_carry_0 := by decide +kernel
theorem dksX4_carry_1 : cX4_carry.data.toList.drop 24 = dktX4_carry_1 := dk_seg dksX4_carry_0 24 rfl rfl
theorem dksX4_carry_2 : cX4_carry.data.toList.drop 47 = dktX4_carry_2 := dk_seg dksX4_carry_1 23 rfl rfl
theorem dksX4_carry_3 : cX4_carry.data.toList.drop 71 = dktX4_carry_3 := dk_seg dksX4_carry_2 24 rfl rfl
theorem dX4_carry_0 : decode cX4_carry 0 = .ok (.aload_n 0, 1) := dk_42 (dk_at dksX4_carry_0 0 rfl rfl)
theorem dX4_carry_1 : decode cX4_carry 1 = .ok (.aload_n 0, 1) := dk_42 (dk_at dksX4_carry_0 1 rfl rfl)
theorem dX4_carry_2 : decode cX4_carry 2 = .ok (.iload_n 1, 1) := dk_27 (dk_at dksX4_carry_0 2 rfl rfl)
theorem dX4_carry_3 : decode cX4_carry 3 = .ok (.invokevirtual 444, 3) := dk_182 1 188 (dk_at dksX4_carry_0 3 rfl rfl)
theorem dX4_carry_6 : decode cX4_carry 6 = .ok (.ifCond .eq 7, 3) := dk_153 0 7 (dk_at dksX4_carry_0 6 rfl rfl)
theorem dX4_carry_9 : decode cX4_carry 9 = .ok (.iconst 0, 1) := dk_3 (dk_at dksX4_carry_0 9 rfl rfl)
theorem dX4_carry_10 : decode cX4_carry 10 = .ok (.goto 4, 3) := dk_167 0 4 (dk_at dksX4_carry_0 10 rfl rfl)
theorem dX4_carry_13 : decode cX4_carry 13 = .ok (.iconst 1, 1) := dk_4 (dk_at dksX4_carry_0 13 rfl rfl)
theorem dX4_carry_14 : decode cX4_carry 14 = .ok (.putfield 50, 3) := dk_181 0 50 (dk_at dksX4_carry_0 14 rfl rfl)
theorem dX4_carry_17 : decode cX4_carry 17 = .ok (.aload_n 0, 1) := dk_42 (dk_at dksX4_carry_0 17 rfl rfl)
theorem dX4_carry_18 : decode cX4_carry 18 = .ok (.getfield 50, 3) := dk_180 0 50 (dk_at dksX4_carry_0 18 rfl rfl)
theorem dX4_carry_21 : decode cX4_carry 21 = .ok (.ifCond .eq 5, 3) := dk_153 0 5 (dk_at dksX4_carry_0 21 rfl rfl)
theorem dX4_carry_24 : decode cX4_carry 24 = .ok (.iconst 0, 1) := dk_3 (dk_at dksX4_carry_1 0 rfl rfl)
theorem dX4_carry_25 : decode cX4_carry 25 = .ok (.ireturn, 1) := dk_172 (dk_at dksX4_carry_1 1 rfl rfl)
theorem dX4_carry_26 : decode cX4_carry 26 = .ok (.aload_n 0, 1) := dk_42 (dk_at dksX4_carry_1 2 rfl rfl)
theorem dX4_carry_27 : decode cX4_carry 27 = .ok (.getfield 31, 3) := dk_180 0 31 (dk_at dksX4_carry_1 3 rfl rfl)
theorem dX4_carry_30 : decode cX4_carry 30 = .ok (.aload_n 0, 1) := dk_42 (dk_at dksX4_carry_1 6 rfl rfl)
theorem dX4_carry_31 : decode cX4_carry 31 = .ok (.getfield 27, 3) := dk_180 0 27 (dk_at dksX4_carry_1 7 rfl rfl)
theorem dX4_carry_34 : decode cX4_carry 34 = .ok (.invokevirtual 195, 3) := dk_182 0 195 (dk_at dksX4_carry_1 10 rfl rfl)
theorem dX4_carry_37 : decode cX4_carry 37 = .ok (.aload_n 0, 1) := dk_42 (dk_at dksX4_carry_1 13 rfl rfl)
theorem dX4_carry_38 : decode cX4_carry 38 = .ok (.aload_n 0, 1) := dk_42 (dk_at dksX4_carry_1 14 rfl rfl)
theorem dX4_carry_39 : decode cX4_carry 39 = .ok (.getfield 27, 3) := dk_180 0 27 (dk_at dksX4_carry_1 15 rfl rfl)
theorem dX4_carry_42 : decode cX4_carry 42 = .ok (.invokevirtual 400, 3) := dk_182 1 144 (dk_at dksX4_carry_1 18 rfl rfl)
theorem dX4_carry_45 : decode cX4_carry 45 = .ok (.aload_n 0, 1) := dk_42 (dk_at dksX4_carry_1 21 rfl rfl)
theorem dX4_carry_46 : decode cX4_carry 46 = .ok (.iload_n 1, 1) := dk_27 (dk_at dksX4_carry_1 22 rfl rfl)
theorem dX4_carry_47 : decode cX4_carry 47 = .ok (.invokevirtual 186, 3) := dk_182 0 186 (dk_at dksX4_carry_2 0 rfl rfl)
theorem dX4_carry_50 : decode cX4_carry 50 = .ok (.ifCond .ne 5, 3) := dk_154 0 5 (dk_at dksX4_carry_2 3 rfl rfl)
theorem dX4_carry_53 : decode cX4_carry 53 = .ok (.iconst 0, 1) := dk_3 (dk_at dksX4_carry_2 6 rfl rfl)
theorem dX4_carry_54 : decode cX4_carry 54 = .ok (.ireturn, 1) := dk_172 (dk_at dksX4_carry_2 7 rfl rfl)
theorem dX4_carry_55 : decode cX4_carry 55 = .ok (.aload_n 0, 1) := dk_42 (dk_at dksX4_carry_2 8 rfl rfl)
theorem dX4_carry_56 : decode cX4_carry 56 = .ok (.aload_n 0, 1) := dk_42 (dk_at dksX4_carry_2 9 rfl rfl)
theorem dX4_carry_57 : decode cX4_carry 57 = .ok (.getfield 31, 3) := dk_180 0 31 (dk_at dksX4_carry_2 10 rfl rfl)
theorem dX4_carry_60 : decode cX4_carry 60 = .ok (.invokevirtual 441, 3) := dk_182 1 185 (dk_at dksX4_carry_2 13 rfl rfl)
theorem dX4_carry_63 : decode cX4_carry 63 = .ok (.aload_n 0, 1) := dk_42 (dk_at dksX4_carry_2 16 rfl rfl)
theorem dX4_carry_64 : decode cX4_carry 64 = .ok (.getfield 34, 3) := dk_180 0 34 (dk_at dksX4_carry_2 17 rfl rfl)
theorem dX4_carry_67 : decode cX4_carry 67 = .ok (.iload_n 1, 1) := dk_27 (dk_at dksX4_carry_2 20 rfl rfl)
theorem dX4_carry_68 : decode cX4_carry 68 = .ok (.dup2, 1) := dk_92 (dk_at dksX4_carry_2 21 rfl rfl)
theorem dX4_carry_69 : decode cX4_carry 69 = .ok (.iaload, 1) := dk_46 (dk_at dksX4_carry_2 22 rfl rfl)
theorem dX4_carry_70 : decode cX4_carry 70 = .ok (.iconst 1, 1) := dk_4 (dk_at dksX4_carry_2 23 rfl rfl)
theorem dX4_carry_71 : decode cX4_carry 71 = .ok (.iadd, 1) := dk_96 (dk_at dksX4_carry_3 0 rfl rfl)
theorem dX4_carry_72 : decode cX4_carry 72 = .ok (.iastore, 1) := dk_79 (dk_at dksX4_carry_3 1 rfl rfl)
theorem dX4_carry_73 : decode cX4_carry 73 = .ok (.aload_n 0, 1) := dk_42 (dk_at dksX4_carry_3 2 rfl rfl)
theorem dX4_carry_74 : decode cX4_carry 74 = .ok (.dup, 1) := dk_89 (dk_at dksX4_carry_3 3 rfl rfl)
theorem dX4_carry_75 : decode cX4_carry 75 = .ok (.getfield 385, 3) := dk_180 1 129 (dk_at dksX4_carry_3 4 rfl rfl)
theorem dX4_carry_78 : decode cX4_carry 78 = .ok (.iconst 1, 1) := dk_4 (dk_at dksX4_carry_3 7 rfl rfl)
theorem dX4_carry_79 : decode cX4_carry 79 = .ok (.iadd, 1) := dk_96 (dk_at dksX4_carry_3 8 rfl rfl)
theorem dX4_carry_80 : decode cX4_carry 80 = .ok (.putfield 385, 3) := dk_181 1 129 (dk_at dksX4_carry_3 9 rfl rfl)
theorem dX4_carry_83 : decode cX4_carry 83 = .ok (.iconst 1, 1) := dk_4 (dk_at dksX4_carry_3 12 rfl rfl)
theorem dX4_carry_84 : decode cX4_carry 84 = .ok (.ireturn, 1) := dk_172 (dk_at dksX4_carry_3 13 rfl rfl)
abbrev cX4_isStep : ByteArray := prog_40_method_8_code
def yX4_isStep : MethodName := ⟨RX4, "isStep", "(I)Z"⟩
def dkwX4_isStep_0 : List UInt8 := [27, 3, 42, 180, 0, 20, 180, 0, 76, 4, 100, 184, 0, 69, 172]
abbrev dktX4_isStep_0 : List UInt8 := dkwX4_isStep_0 ++ []
theorem dksX4_isStep_0 : cX4_isStep.data.toList.drop 0 = dktX4_isStep_0 := by decide +kernel
theorem dX4_isStep_0 : decode cX4_isStep 0 = .ok (.iload_n 1, 1) := dk_27 (dk_at dksX4_isStep_0 0 rfl rfl)
theorem dX4_isStep_1 : decode cX4_isStep 1 = .ok (.iconst 0, 1) := dk_3 (dk_at dksX4_isStep_0 1 rfl rfl)
theorem dX4_isStep_2 : decode cX4_isStep 2 = .ok (.aload_n 0, 1) := dk_42 (dk_at dksX4_isStep_0 2 rfl rfl)
theorem dX4_isStep_3 : decode cX4_isStep 3 = .ok (.getfield 20, 3) := dk_180 0 20 (dk_at dksX4_isStep_0 3 rfl rfl)
theorem dX4_isStep_6 : decode cX4_isStep 6 = .ok (.getfield 76, 3) := dk_180 0 76 (dk_at dksX4_isStep_0 6 rfl rfl)
theorem dX4_isStep_9 : decode cX4_isStep 9 = .ok (.iconst 1, 1) := dk_4 (dk_at dksX4_isStep_0 9 rfl rfl)
theorem dX4_isStep_10 : decode cX4_isStep 10 = .ok (.isub, 1) := dk_100 (dk_at dksX4_isStep_0 10 rfl rfl)
theorem dX4_isStep_11 : decode cX4_isStep 11 = .ok (.invokestatic 69, 3) := dk_184 0 69 (dk_at dksX4_isStep_0 11 rfl rfl)
theorem dX4_isStep_14 : decode cX4_isStep 14 = .ok (.ireturn, 1) := dk_172 (dk_at dksX4_isStep_0 14 rfl rfl)
abbrev cX4_go : ByteArray := prog_40_method_31_code
def yX4_go : MethodName := ⟨RX4, "go", "(I)Z"⟩
def dkwX4_go_13 : List UInt8 := [132, 7, 1, 167, 255, 116, 4, 172]
abbrev dktX4_go_13 : List UInt8 := dkwX4_go_13 ++ []
def dkwX4_go_12 : List UInt8 := [160, 0, 12, 21, 6, 21, 9, 96, 133, 167, 0, 9, 21, 6, 21, 10, 96, 133, 184, 0, 182, 79]
abbrev dktX4_go_12 : List UInt8 := dkwX4_go_12 ++ dktX4_go_13
def dkwX4_go_11 : List UInt8 := [184, 0, 182, 79, 42, 180, 0, 44, 180, 0, 88, 21, 8, 42, 180, 0, 20, 180, 0, 128, 28, 46, 16, 6]
abbrev dktX4_go_11 : List UInt8 := dkwX4_go_11 ++ dktX4_go_12
def dkwX4_go_10 : List UInt8 := [28, 46, 16, 6, 160, 0, 12, 21, 5, 21, 10, 100, 133, 167, 0, 9, 21, 5, 21, 9, 100, 133]
abbrev dktX4_go_10 : List UInt8 := dkwX4_go_10 ++ dktX4_go_11
def dkwX4_go_9 : List UInt8 := [21, 8, 46, 21, 6, 100, 54, 10, 42, 180, 0, 44, 180, 0, 85, 21, 8, 42, 180, 0, 20, 180, 0, 128]
abbrev dktX4_go_9 : List UInt8 := dkwX4_go_9 ++ dktX4_go_10
def dkwX4_go_8 : List UInt8 := [54, 8, 42, 180, 0, 44, 180, 0, 85, 21, 8, 46, 21, 5, 100, 54, 9, 42, 180, 0, 44, 180, 0, 88]
abbrev dktX4_go_8 : List UInt8 := dkwX4_go_8 ++ dktX4_go_9
def dkwX4_go_7 : List UInt8 := [54, 7, 21, 7, 42, 180, 0, 20, 180, 0, 82, 29, 46, 162, 0, 132, 42, 29, 21, 7, 182, 0, 95]
abbrev dktX4_go_7 : List UInt8 := dkwX4_go_7 ++ dktX4_go_8
def dkwX4_go_6 : List UInt8 := [180, 0, 44, 180, 0, 85, 21, 4, 46, 54, 5, 42, 180, 0, 44, 180, 0, 88, 21, 4, 46, 54, 6, 3]
abbrev dktX4_go_6 : List UInt8 := dkwX4_go_6 ++ dktX4_go_7
def dkwX4_go_5 : List UInt8 := [133, 97, 184, 0, 182, 79, 4, 172, 42, 180, 0, 20, 180, 0, 134, 28, 6, 96, 46, 54, 4, 42]
abbrev dktX4_go_5 : List UInt8 := dkwX4_go_5 ++ dktX4_go_6
def dkwX4_go_4 : List UInt8 := [184, 0, 182, 79, 42, 180, 0, 44, 180, 0, 88, 29, 42, 180, 0, 44, 180, 0, 88, 29, 46, 133, 21, 5]
abbrev dktX4_go_4 : List UInt8 := dkwX4_go_4 ++ dktX4_go_5
def dkwX4_go_3 : List UInt8 := [54, 5, 42, 180, 0, 44, 180, 0, 85, 29, 42, 180, 0, 44, 180, 0, 85, 29, 46, 133, 21, 4, 133, 97]
abbrev dktX4_go_3 : List UInt8 := dkwX4_go_3 ++ dktX4_go_4
def dkwX4_go_2 : List UInt8 := [96, 181, 0, 131, 42, 182, 0, 158, 54, 4, 42, 89, 180, 0, 131, 4, 96, 181, 0, 131, 42, 182, 0, 158]
abbrev dktX4_go_2 : List UInt8 := dkwX4_go_2 ++ dktX4_go_3
def dkwX4_go_1 : List UInt8 := [180, 0, 134, 28, 4, 96, 46, 62, 42, 180, 0, 20, 180, 0, 128, 28, 46, 7, 160, 0, 86, 42, 28, 6]
abbrev dktX4_go_1 : List UInt8 := dkwX4_go_1 ++ dktX4_go_2
def dkwX4_go_0 : List UInt8 := [42, 27, 182, 0, 179, 154, 0, 5, 3, 172, 42, 180, 0, 20, 180, 0, 173, 27, 46, 61, 42, 180, 0, 20]
abbrev dktX4_go_0 : List UInt8 := dkwX4_go_0 ++ dktX4_go_1
theorem dksX4_go_0 : cX4_go.data.toList.drop 0 = dktX4_go_0 := by decide +kernel
theorem dksX4_go_1 : cX4_go.data.toList.drop 24 = dktX4_go_1 := dk_seg dksX4_go_0 24 rfl rfl
theorem dksX4_go_2 : cX4_go.data.toList.drop 48 = dktX4_go_2 := dk_seg dksX4_go_1 24 rfl rfl
theorem dksX4_go_3 : cX4_go.data.toList.drop 72 = dktX4_go_3 := dk_seg dksX4_go_2 24 rfl rfl
theorem dksX4_go_4 : cX4_go.data.toList.drop 96 = dktX4_go_4 := dk_seg dksX4_go_3 24 rfl rfl
theorem dksX4_go_5 : cX4_go.data.toList.drop 120 = dktX4_go_5 := dk_seg dksX4_go_4 24 rfl rfl
theorem dksX4_go_6 : cX4_go.data.toList.drop 142 = dktX4_go_6 := dk_seg dksX4_go_5 22 rfl rfl
theorem dksX4_go_7 : cX4_go.data.toList.drop 166 = dktX4_go_7 := dk_seg dksX4_go_6 24 rfl rfl
theorem dksX4_go_8 : cX4_go.data.toList.drop 189 = dktX4_go_8 := dk_seg dksX4_go_7 23 rfl rfl
theorem dksX4_go_9 : cX4_go.data.toList.drop 213 = dktX4_go_9 := dk_seg dksX4_go_8 24 rfl rfl
theorem dksX4_go_10 : cX4_go.data.toList.drop 237 = dktX4_go_10 := dk_seg dksX4_go_9 24 rfl rfl
theorem dksX4_go_11 : cX4_go.data.toList.drop 259 = dktX4_go_11 := dk_seg dksX4_go_10 22 rfl rfl
theorem dksX4_go_12 : cX4_go.data.toList.drop 283 = dktX4_go_12 := dk_seg dksX4_go_11 24 rfl rfl
theorem dksX4_go_13 : cX4_go.data.toList.drop 305 = dktX4_go_13 := dk_seg dksX4_go_12 22 rfl rfl
theorem dX4_go_0 : decode cX4_go 0 = .ok (.aload_n 0, 1) := dk_42 (dk_at dksX4_go_0 0 rfl rfl)
theorem dX4_go_1 : decode cX4_go 1 = .ok (.iload_n 1, 1) := dk_27 (dk_at dksX4_go_0 1 rfl rfl)
theorem dX4_go_2 : decode cX4_go 2 = .ok (.invokevirtual 179, 3) := dk_182 0 179 (dk_at dksX4_go_0 2 rfl rfl)
theorem dX4_go_5 : decode cX4_go 5 = .ok (.ifCond .ne 5, 3) := dk_154 0 5 (dk_at dksX4_go_0 5 rfl rfl)
theorem dX4_go_8 : decode cX4_go 8 = .ok (.iconst 0, 1) := dk_3 (dk_at dksX4_go_0 8 rfl rfl)
theorem dX4_go_9 : decode cX4_go 9 = .ok (.ireturn, 1) := dk_172 (dk_at dksX4_go_0 9 rfl rfl)
theorem dX4_go_10 : decode cX4_go 10 = .ok (.aload_n 0, 1) := dk_42 (dk_at dksX4_go_0 10 rfl rfl)
theorem dX4_go_11 : decode cX4_go 11 = .ok (.getfield 20, 3) := dk_180 0 20 (dk_at dksX4_go_0 11 rfl rfl)
theorem dX4_go_14 : decode cX4_go 14 = .ok (.getfield 173, 3) := dk_180 0 173 (dk_at dksX4_go_0 14 rfl rfl)
theorem dX4_go_17 : decode cX4_go 17 = .ok (.iload_n 1, 1) := dk_27 (dk_at dksX4_go_0 17 rfl rfl)
theorem dX4_go_18 : decode cX4_go 18 = .ok (.iaload, 1) := dk_46 (dk_at dksX4_go_0 18 rfl rfl)
theorem dX4_go_19 : decode cX4_go 19 = .ok (.istore_n 2, 1) := dk_61 (dk_at dksX4_go_0 19 rfl rfl)
theorem dX4_go_20 : decode cX4_go 20 = .ok (.aload_n 0, 1) := dk_42 (dk_at dksX4_go_0 20 rfl rfl)
theorem dX4_go_21 : decode cX4_go 21 = .ok (.getfield 20, 3) := dk_180 0 20 (dk_at dksX4_go_0 21 rfl rfl)
theorem dX4_go_24 : decode cX4_go 24 = .ok (.getfield 134, 3) := dk_180 0 134 (dk_at dksX4_go_1 0 rfl rfl)
theorem dX4_go_27 : decode cX4_go 27 = .ok (.iload_n 2, 1) := dk_28 (dk_at dksX4_go_1 3 rfl rfl)
theorem dX4_go_28 : decode cX4_go 28 = .ok (.iconst 1, 1) := dk_4 (dk_at dksX4_go_1 4 rfl rfl)
theorem dX4_go_29 : decode cX4_go 29 = .ok (.iadd, 1) := dk_96 (dk_at dksX4_go_1 5 rfl rfl)
theorem dX4_go_30 : decode cX4_go 30 = .ok (.iaload, 1) := dk_46 (dk_at dksX4_go_1 6 rfl rfl)
theorem dX4_go_31 : decode cX4_go 31 = .ok (.istore_n 3, 1) := dk_62 (dk_at dksX4_go_1 7 rfl rfl)
theorem dX4_go_32 : decode cX4_go 32 = .ok (.aload_n 0, 1) := dk_42 (dk_at dksX4_go_1 8 rfl rfl)
theorem dX4_go_33 : decode cX4_go 33 = .ok (.getfield 20, 3) := dk_180 0 20 (dk_at dksX4_go_1 9 rfl rfl)
theorem dX4_go_36 : decode cX4_go 36 = .ok (.getfield 128, 3) := dk_180 0 128 (dk_at dksX4_go_1 12 rfl rfl)
theorem dX4_go_39 : decode cX4_go 39 = .ok (.iload_n 2, 1) := dk_28 (dk_at dksX4_go_1 15 rfl rfl)
theorem dX4_go_40 : decode cX4_go 40 = .ok (.iaload, 1) := dk_46 (dk_at dksX4_go_1 16 rfl rfl)
theorem dX4_go_41 : decode cX4_go 41 = .ok (.iconst 4, 1) := dk_7 (dk_at dksX4_go_1 17 rfl rfl)
theorem dX4_go_42 : decode cX4_go 42 = .ok (.if_icmp .ne 86, 3) := dk_160 0 86 (dk_at dksX4_go_1 18 rfl rfl)
theorem dX4_go_45 : decode cX4_go 45 = .ok (.aload_n 0, 1) := dk_42 (dk_at dksX4_go_1 21 rfl rfl)
theorem dX4_go_46 : decode cX4_go 46 = .ok (.iload_n 2, 1) := dk_28 (dk_at dksX4_go_1 22 rfl rfl)
theorem dX4_go_47 : decode cX4_go 47 = .ok (.iconst 3, 1) := dk_6 (dk_at dksX4_go_1 23 rfl rfl)
theorem dX4_go_48 : decode cX4_go 48 = .ok (.iadd, 1) := dk_96 (dk_at dksX4_go_2 0 rfl rfl)
theorem dX4_go_49 : decode cX4_go 49 = .ok (.putfield 131, 3) := dk_181 0 131 (dk_at dksX4_go_2 1 rfl rfl)
theorem dX4_go_52 : decode cX4_go 52 = .ok (.aload_n 0, 1) := dk_42 (dk_at dksX4_go_2 4 rfl rfl)
theorem dX4_go_53 : decode cX4_go 53 = .ok (.invokevirtual 158, 3) := dk_182 0 158 (dk_at dksX4_go_2 5 rfl rfl)
theorem dX4_go_56 : decode cX4_go 56 = .ok (.istore 4, 2) := dk_54 4 (dk_at dksX4_go_2 8 rfl rfl)
theorem dX4_go_58 : decode cX4_go 58 = .ok (.aload_n 0, 1) := dk_42 (dk_at dksX4_go_2 10 rfl rfl)
theorem dX4_go_59 : decode cX4_go 59 = .ok (.dup, 1) := dk_89 (dk_at dksX4_go_2 11 rfl rfl)
theorem dX4_go_60 : decode cX4_go 60 = .ok (.getfield 131, 3) := dk_180 0 131 (dk_at dksX4_go_2 12 rfl rfl)
theorem dX4_go_63 : decode cX4_go 63 = .ok (.iconst 1, 1) := dk_4 (dk_at dksX4_go_2 15 rfl rfl)
theorem dX4_go_64 : decode cX4_go 64 = .ok (.iadd, 1) := dk_96 (dk_at dksX4_go_2 16 rfl rfl)
theorem dX4_go_65 : decode cX4_go 65 = .ok (.putfield 131, 3) := dk_181 0 131 (dk_at dksX4_go_2 17 rfl rfl)
theorem dX4_go_68 : decode cX4_go 68 = .ok (.aload_n 0, 1) := dk_42 (dk_at dksX4_go_2 20 rfl rfl)
theorem dX4_go_69 : decode cX4_go 69 = .ok (.invokevirtual 158, 3) := dk_182 0 158 (dk_at dksX4_go_2 21 rfl rfl)
theorem dX4_go_72 : decode cX4_go 72 = .ok (.istore 5, 2) := dk_54 5 (dk_at dksX4_go_3 0 rfl rfl)
theorem dX4_go_74 : decode cX4_go 74 = .ok (.aload_n 0, 1) := dk_42 (dk_at dksX4_go_3 2 rfl rfl)
theorem dX4_go_75 : decode cX4_go 75 = .ok (.getfield 44, 3) := dk_180 0 44 (dk_at dksX4_go_3 3 rfl rfl)
theorem dX4_go_78 : decode cX4_go 78 = .ok (.getfield 85, 3) := dk_180 0 85 (dk_at dksX4_go_3 6 rfl rfl)
theorem dX4_go_81 : decode cX4_go 81 = .ok (.iload_n 3, 1) := dk_29 (dk_at dksX4_go_3 9 rfl rfl)
theorem dX4_go_82 : decode cX4_go 82 = .ok (.aload_n 0, 1) := dk_42 (dk_at dksX4_go_3 10 rfl rfl)
theorem dX4_go_83 : decode cX4_go 83 = .ok (.getfield 44, 3) := dk_180 0 44 (dk_at dksX4_go_3 11 rfl rfl)
theorem dX4_go_86 : decode cX4_go 86 = .ok (.getfield 85, 3) := dk_180 0 85 (dk_at dksX4_go_3 14 rfl rfl)
theorem dX4_go_89 : decode cX4_go 89 = .ok (.iload_n 3, 1) := dk_29 (dk_at dksX4_go_3 17 rfl rfl)
theorem dX4_go_90 : decode cX4_go 90 = .ok (.iaload, 1) := dk_46 (dk_at dksX4_go_3 18 rfl rfl)
theorem dX4_go_91 : decode cX4_go 91 = .ok (.i2l, 1) := dk_133 (dk_at dksX4_go_3 19 rfl rfl)
theorem dX4_go_92 : decode cX4_go 92 = .ok (.iload 4, 2) := dk_21 4 (dk_at dksX4_go_3 20 rfl rfl)
theorem dX4_go_94 : decode cX4_go 94 = .ok (.i2l, 1) := dk_133 (dk_at dksX4_go_3 22 rfl rfl)
theorem dX4_go_95 : decode cX4_go 95 = .ok (.ladd, 1) := dk_97 (dk_at dksX4_go_3 23 rfl rfl)
theorem dX4_go_96 : decode cX4_go 96 = .ok (.invokestatic 182, 3) := dk_184 0 182 (dk_at dksX4_go_4 0 rfl rfl)
theorem dX4_go_99 : decode cX4_go 99 = .ok (.iastore, 1) := dk_79 (dk_at dksX4_go_4 3 rfl rfl)
theorem dX4_go_100 : decode cX4_go 100 = .ok (.aload_n 0, 1) := dk_42 (dk_at dksX4_go_4 4 rfl rfl)
theorem dX4_go_101 : decode cX4_go 101 = .ok (.getfield 44, 3) := dk_180 0 44 (dk_at dksX4_go_4 5 rfl rfl)
theorem dX4_go_104 : decode cX4_go 104 = .ok (.getfield 88, 3) := dk_180 0 88 (dk_at dksX4_go_4 8 rfl rfl)
theorem dX4_go_107 : decode cX4_go 107 = .ok (.iload_n 3, 1) := dk_29 (dk_at dksX4_go_4 11 rfl rfl)
theorem dX4_go_108 : decode cX4_go 108 = .ok (.aload_n 0, 1) := dk_42 (dk_at dksX4_go_4 12 rfl rfl)
theorem dX4_go_109 : decode cX4_go 109 = .ok (.getfield 44, 3) := dk_180 0 44 (dk_at dksX4_go_4 13 rfl rfl)
theorem dX4_go_112 : decode cX4_go 112 = .ok (.getfield 88, 3) := dk_180 0 88 (dk_at dksX4_go_4 16 rfl rfl)
theorem dX4_go_115 : decode cX4_go 115 = .ok (.iload_n 3, 1) := dk_29 (dk_at dksX4_go_4 19 rfl rfl)
theorem dX4_go_116 : decode cX4_go 116 = .ok (.iaload, 1) := dk_46 (dk_at dksX4_go_4 20 rfl rfl)
theorem dX4_go_117 : decode cX4_go 117 = .ok (.i2l, 1) := dk_133 (dk_at dksX4_go_4 21 rfl rfl)
theorem dX4_go_118 : decode cX4_go 118 = .ok (.iload 5, 2) := dk_21 5 (dk_at dksX4_go_4 22 rfl rfl)
theorem dX4_go_120 : decode cX4_go 120 = .ok (.i2l, 1) := dk_133 (dk_at dksX4_go_5 0 rfl rfl)
theorem dX4_go_121 : decode cX4_go 121 = .ok (.ladd, 1) := dk_97 (dk_at dksX4_go_5 1 rfl rfl)
theorem dX4_go_122 : decode cX4_go 122 = .ok (.invokestatic 182, 3) := dk_184 0 182 (dk_at dksX4_go_5 2 rfl rfl)
theorem dX4_go_125 : decode cX4_go 125 = .ok (.iastore, 1) := dk_79 (dk_at dksX4_go_5 5 rfl rfl)
theorem dX4_go_126 : decode cX4_go 126 = .ok (.iconst 1, 1) := dk_4 (dk_at dksX4_go_5 6 rfl rfl)
theorem dX4_go_127 : decode cX4_go 127 = .ok (.ireturn, 1) := dk_172 (dk_at dksX4_go_5 7 rfl rfl)
theorem dX4_go_128 : decode cX4_go 128 = .ok (.aload_n 0, 1) := dk_42 (dk_at dksX4_go_5 8 rfl rfl)
theorem dX4_go_129 : decode cX4_go 129 = .ok (.getfield 20, 3) := dk_180 0 20 (dk_at dksX4_go_5 9 rfl rfl)
theorem dX4_go_132 : decode cX4_go 132 = .ok (.getfield 134, 3) := dk_180 0 134 (dk_at dksX4_go_5 12 rfl rfl)
theorem dX4_go_135 : decode cX4_go 135 = .ok (.iload_n 2, 1) := dk_28 (dk_at dksX4_go_5 15 rfl rfl)
theorem dX4_go_136 : decode cX4_go 136 = .ok (.iconst 3, 1) := dk_6 (dk_at dksX4_go_5 16 rfl rfl)
theorem dX4_go_137 : decode cX4_go 137 = .ok (.iadd, 1) := dk_96 (dk_at dksX4_go_5 17 rfl rfl)
theorem dX4_go_138 : decode cX4_go 138 = .ok (.iaload, 1) := dk_46 (dk_at dksX4_go_5 18 rfl rfl)
theorem dX4_go_139 : decode cX4_go 139 = .ok (.istore 4, 2) := dk_54 4 (dk_at dksX4_go_5 19 rfl rfl)
theorem dX4_go_141 : decode cX4_go 141 = .ok (.aload_n 0, 1) := dk_42 (dk_at dksX4_go_5 21 rfl rfl)
theorem dX4_go_142 : decode cX4_go 142 = .ok (.getfield 44, 3) := dk_180 0 44 (dk_at dksX4_go_6 0 rfl rfl)
theorem dX4_go_145 : decode cX4_go 145 = .ok (.getfield 85, 3) := dk_180 0 85 (dk_at dksX4_go_6 3 rfl rfl)
theorem dX4_go_148 : decode cX4_go 148 = .ok (.iload 4, 2) := dk_21 4 (dk_at dksX4_go_6 6 rfl rfl)
theorem dX4_go_150 : decode cX4_go 150 = .ok (.iaload, 1) := dk_46 (dk_at dksX4_go_6 8 rfl rfl)
theorem dX4_go_151 : decode cX4_go 151 = .ok (.istore 5, 2) := dk_54 5 (dk_at dksX4_go_6 9 rfl rfl)
theorem dX4_go_153 : decode cX4_go 153 = .ok (.aload_n 0, 1) := dk_42 (dk_at dksX4_go_6 11 rfl rfl)
theorem dX4_go_154 : decode cX4_go 154 = .ok (.getfield 44, 3) := dk_180 0 44 (dk_at dksX4_go_6 12 rfl rfl)
theorem dX4_go_157 : decode cX4_go 157 = .ok (.getfield 88, 3) := dk_180 0 88 (dk_at dksX4_go_6 15 rfl rfl)
theorem dX4_go_160 : decode cX4_go 160 = .ok (.iload 4, 2) := dk_21 4 (dk_at dksX4_go_6 18 rfl rfl)
theorem dX4_go_162 : decode cX4_go 162 = .ok (.iaload, 1) := dk_46 (dk_at dksX4_go_6 20 rfl rfl)
theorem dX4_go_163 : decode cX4_go 163 = .ok (.istore 6, 2) := dk_54 6 (dk_at dksX4_go_6 21 rfl rfl)
theorem dX4_go_165 : decode cX4_go 165 = .ok (.iconst 0, 1) := dk_3 (dk_at dksX4_go_6 23 rfl rfl)
theorem dX4_go_166 : decode cX4_go 166 = .ok (.istore 7, 2) := dk_54 7 (dk_at dksX4_go_7 0 rfl rfl)
theorem dX4_go_168 : decode cX4_go 168 = .ok (.iload 7, 2) := dk_21 7 (dk_at dksX4_go_7 2 rfl rfl)
theorem dX4_go_170 : decode cX4_go 170 = .ok (.aload_n 0, 1) := dk_42 (dk_at dksX4_go_7 4 rfl rfl)
theorem dX4_go_171 : decode cX4_go 171 = .ok (.getfield 20, 3) := dk_180 0 20 (dk_at dksX4_go_7 5 rfl rfl)
theorem dX4_go_174 : decode cX4_go 174 = .ok (.getfield 82, 3) := dk_180 0 82 (dk_at dksX4_go_7 8 rfl rfl)
theorem dX4_go_177 : decode cX4_go 177 = .ok (.iload_n 3, 1) := dk_29 (dk_at dksX4_go_7 11 rfl rfl)
theorem dX4_go_178 : decode cX4_go 178 = .ok (.iaload, 1) := dk_46 (dk_at dksX4_go_7 12 rfl rfl)
theorem dX4_go_179 : decode cX4_go 179 = .ok (.if_icmp .ge 132, 3) := dk_162 0 132 (dk_at dksX4_go_7 13 rfl rfl)
theorem dX4_go_182 : decode cX4_go 182 = .ok (.aload_n 0, 1) := dk_42 (dk_at dksX4_go_7 16 rfl rfl)
theorem dX4_go_183 : decode cX4_go 183 = .ok (.iload_n 3, 1) := dk_29 (dk_at dksX4_go_7 17 rfl rfl)
theorem dX4_go_184 : decode cX4_go 184 = .ok (.iload 7, 2) := dk_21 7 (dk_at dksX4_go_7 18 rfl rfl)
theorem dX4_go_186 : decode cX4_go 186 = .ok (.invokevirtual 95, 3) := dk_182 0 95 (dk_at dksX4_go_7 20 rfl rfl)
theorem dX4_go_189 : decode cX4_go 189 = .ok (.istore 8, 2) := dk_54 8 (dk_at dksX4_go_8 0 rfl rfl)
theorem dX4_go_191 : decode cX4_go 191 = .ok (.aload_n 0, 1) := dk_42 (dk_at dksX4_go_8 2 rfl rfl)
theorem dX4_go_192 : decode cX4_go 192 = .ok (.getfield 44, 3) := dk_180 0 44 (dk_at dksX4_go_8 3 rfl rfl)
theorem dX4_go_195 : decode cX4_go 195 = .ok (.getfield 85, 3) := dk_180 0 85 (dk_at dksX4_go_8 6 rfl rfl)
theorem dX4_go_198 : decode cX4_go 198 = .ok (.iload 8, 2) := dk_21 8 (dk_at dksX4_go_8 9 rfl rfl)
theorem dX4_go_200 : decode cX4_go 200 = .ok (.iaload, 1) := dk_46 (dk_at dksX4_go_8 11 rfl rfl)
theorem dX4_go_201 : decode cX4_go 201 = .ok (.iload 5, 2) := dk_21 5 (dk_at dksX4_go_8 12 rfl rfl)
theorem dX4_go_203 : decode cX4_go 203 = .ok (.isub, 1) := dk_100 (dk_at dksX4_go_8 14 rfl rfl)
theorem dX4_go_204 : decode cX4_go 204 = .ok (.istore 9, 2) := dk_54 9 (dk_at dksX4_go_8 15 rfl rfl)
theorem dX4_go_206 : decode cX4_go 206 = .ok (.aload_n 0, 1) := dk_42 (dk_at dksX4_go_8 17 rfl rfl)
theorem dX4_go_207 : decode cX4_go 207 = .ok (.getfield 44, 3) := dk_180 0 44 (dk_at dksX4_go_8 18 rfl rfl)
theorem dX4_go_210 : decode cX4_go 210 = .ok (.getfield 88, 3) := dk_180 0 88 (dk_at dksX4_go_8 21 rfl rfl)
theorem dX4_go_213 : decode cX4_go 213 = .ok (.iload 8, 2) := dk_21 8 (dk_at dksX4_go_9 0 rfl rfl)
theorem dX4_go_215 : decode cX4_go 215 = .ok (.iaload, 1) := dk_46 (dk_at dksX4_go_9 2 rfl rfl)
theorem dX4_go_216 : decode cX4_go 216 = .ok (.iload 6, 2) := dk_21 6 (dk_at dksX4_go_9 3 rfl rfl)
theorem dX4_go_218 : decode cX4_go 218 = .ok (.isub, 1) := dk_100 (dk_at dksX4_go_9 5 rfl rfl)
theorem dX4_go_219 : decode cX4_go 219 = .ok (.istore 10, 2) := dk_54 10 (dk_at dksX4_go_9 6 rfl rfl)
theorem dX4_go_221 : decode cX4_go 221 = .ok (.aload_n 0, 1) := dk_42 (dk_at dksX4_go_9 8 rfl rfl)
theorem dX4_go_222 : decode cX4_go 222 = .ok (.getfield 44, 3) := dk_180 0 44 (dk_at dksX4_go_9 9 rfl rfl)
theorem dX4_go_225 : decode cX4_go 225 = .ok (.getfield 85, 3) := dk_180 0 85 (dk_at dksX4_go_9 12 rfl rfl)
theorem dX4_go_228 : decode cX4_go 228 = .ok (.iload 8, 2) := dk_21 8 (dk_at dksX4_go_9 15 rfl rfl)
theorem dX4_go_230 : decode cX4_go 230 = .ok (.aload_n 0, 1) := dk_42 (dk_at dksX4_go_9 17 rfl rfl)
theorem dX4_go_231 : decode cX4_go 231 = .ok (.getfield 20, 3) := dk_180 0 20 (dk_at dksX4_go_9 18 rfl rfl)
theorem dX4_go_234 : decode cX4_go 234 = .ok (.getfield 128, 3) := dk_180 0 128 (dk_at dksX4_go_9 21 rfl rfl)
theorem dX4_go_237 : decode cX4_go 237 = .ok (.iload_n 2, 1) := dk_28 (dk_at dksX4_go_10 0 rfl rfl)
theorem dX4_go_238 : decode cX4_go 238 = .ok (.iaload, 1) := dk_46 (dk_at dksX4_go_10 1 rfl rfl)
theorem dX4_go_239 : decode cX4_go 239 = .ok (.bipush 6, 2) := dk_16 6 (dk_at dksX4_go_10 2 rfl rfl)
theorem dX4_go_241 : decode cX4_go 241 = .ok (.if_icmp .ne 12, 3) := dk_160 0 12 (dk_at dksX4_go_10 4 rfl rfl)
theorem dX4_go_244 : decode cX4_go 244 = .ok (.iload 5, 2) := dk_21 5 (dk_at dksX4_go_10 7 rfl rfl)
theorem dX4_go_246 : decode cX4_go 246 = .ok (.iload 10, 2) := dk_21 10 (dk_at dksX4_go_10 9 rfl rfl)
theorem dX4_go_248 : decode cX4_go 248 = .ok (.isub, 1) := dk_100 (dk_at dksX4_go_10 11 rfl rfl)
theorem dX4_go_249 : decode cX4_go 249 = .ok (.i2l, 1) := dk_133 (dk_at dksX4_go_10 12 rfl rfl)
theorem dX4_go_250 : decode cX4_go 250 = .ok (.goto 9, 3) := dk_167 0 9 (dk_at dksX4_go_10 13 rfl rfl)
theorem dX4_go_253 : decode cX4_go 253 = .ok (.iload 5, 2) := dk_21 5 (dk_at dksX4_go_10 16 rfl rfl)
theorem dX4_go_255 : decode cX4_go 255 = .ok (.iload 9, 2) := dk_21 9 (dk_at dksX4_go_10 18 rfl rfl)
theorem dX4_go_257 : decode cX4_go 257 = .ok (.isub, 1) := dk_100 (dk_at dksX4_go_10 20 rfl rfl)
theorem dX4_go_258 : decode cX4_go 258 = .ok (.i2l, 1) := dk_133 (dk_at dksX4_go_10 21 rfl rfl)
theorem dX4_go_259 : decode cX4_go 259 = .ok (.invokestatic 182, 3) := dk_184 0 182 (dk_at dksX4_go_11 0 rfl rfl)
theorem dX4_go_262 : decode cX4_go 262 = .ok (.iastore, 1) := dk_79 (dk_at dksX4_go_11 3 rfl rfl)
theorem dX4_go_263 : decode cX4_go 263 = .ok (.aload_n 0, 1) := dk_42 (dk_at dksX4_go_11 4 rfl rfl)
theorem dX4_go_264 : decode cX4_go 264 = .ok (.getfield 44, 3) := dk_180 0 44 (dk_at dksX4_go_11 5 rfl rfl)
theorem dX4_go_267 : decode cX4_go 267 = .ok (.getfield 88, 3) := dk_180 0 88 (dk_at dksX4_go_11 8 rfl rfl)
theorem dX4_go_270 : decode cX4_go 270 = .ok (.iload 8, 2) := dk_21 8 (dk_at dksX4_go_11 11 rfl rfl)
theorem dX4_go_272 : decode cX4_go 272 = .ok (.aload_n 0, 1) := dk_42 (dk_at dksX4_go_11 13 rfl rfl)
theorem dX4_go_273 : decode cX4_go 273 = .ok (.getfield 20, 3) := dk_180 0 20 (dk_at dksX4_go_11 14 rfl rfl)
theorem dX4_go_276 : decode cX4_go 276 = .ok (.getfield 128, 3) := dk_180 0 128 (dk_at dksX4_go_11 17 rfl rfl)
theorem dX4_go_279 : decode cX4_go 279 = .ok (.iload_n 2, 1) := dk_28 (dk_at dksX4_go_11 20 rfl rfl)
theorem dX4_go_280 : decode cX4_go 280 = .ok (.iaload, 1) := dk_46 (dk_at dksX4_go_11 21 rfl rfl)
theorem dX4_go_281 : decode cX4_go 281 = .ok (.bipush 6, 2) := dk_16 6 (dk_at dksX4_go_11 22 rfl rfl)
theorem dX4_go_283 : decode cX4_go 283 = .ok (.if_icmp .ne 12, 3) := dk_160 0 12 (dk_at dksX4_go_12 0 rfl rfl)
theorem dX4_go_286 : decode cX4_go 286 = .ok (.iload 6, 2) := dk_21 6 (dk_at dksX4_go_12 3 rfl rfl)
theorem dX4_go_288 : decode cX4_go 288 = .ok (.iload 9, 2) := dk_21 9 (dk_at dksX4_go_12 5 rfl rfl)
theorem dX4_go_290 : decode cX4_go 290 = .ok (.iadd, 1) := dk_96 (dk_at dksX4_go_12 7 rfl rfl)
theorem dX4_go_291 : decode cX4_go 291 = .ok (.i2l, 1) := dk_133 (dk_at dksX4_go_12 8 rfl rfl)
theorem dX4_go_292 : decode cX4_go 292 = .ok (.goto 9, 3) := dk_167 0 9 (dk_at dksX4_go_12 9 rfl rfl)
theorem dX4_go_295 : decode cX4_go 295 = .ok (.iload 6, 2) := dk_21 6 (dk_at dksX4_go_12 12 rfl rfl)
theorem dX4_go_297 : decode cX4_go 297 = .ok (.iload 10, 2) := dk_21 10 (dk_at dksX4_go_12 14 rfl rfl)
theorem dX4_go_299 : decode cX4_go 299 = .ok (.iadd, 1) := dk_96 (dk_at dksX4_go_12 16 rfl rfl)
theorem dX4_go_300 : decode cX4_go 300 = .ok (.i2l, 1) := dk_133 (dk_at dksX4_go_12 17 rfl rfl)
theorem dX4_go_301 : decode cX4_go 301 = .ok (.invokestatic 182, 3) := dk_184 0 182 (dk_at dksX4_go_12 18 rfl rfl)
theorem dX4_go_304 : decode cX4_go 304 = .ok (.iastore, 1) := dk_79 (dk_at dksX4_go_12 21 rfl rfl)
theorem dX4_go_305 : decode cX4_go 305 = .ok (.iinc 7 1, 3) := dk_132 7 1 (dk_at dksX4_go_13 0 rfl rfl)
theorem dX4_go_308 : decode cX4_go 308 = .ok (.goto (-140), 3) := dk_167 255 116 (dk_at dksX4_go_13 3 rfl rfl)
theorem dX4_go_311 : decode cX4_go 311 = .ok (.iconst 1, 1) := dk_4 (dk_at dksX4_go_13 6 rfl rfl)
theorem dX4_go_312 : decode cX4_go 312 = .ok (.ireturn, 1) := dk_172 (dk_at dksX4_go_13 7 rfl rfl)
abbrev cX4_holds : ByteArray := prog_40_method_30_code
def yX4_holds : MethodName := ⟨RX4, "holds", "(I)Z"⟩
def dkwX4_holds_1 : List UInt8 := [4, 167, 0, 4, 3, 172]
abbrev dktX4_holds_1 : List UInt8 := dkwX4_holds_1 ++ []
def dkwX4_holds_0 : List UInt8 := [42, 42, 27, 182, 0, 176, 181, 0, 131, 42, 180, 0, 131, 2, 159, 0, 10, 42, 182, 0, 148, 153, 0, 7]
abbrev dktX4_holds_0 : List UInt8 := dkwX4_holds_0 ++ dktX4_holds_1
theorem dksX4_holds_0 : cX4_holds.data.toList.drop 0 = dktX4_holds_0 := by decide +kernel
theorem dksX4_holds_1 : cX4_holds.data.toList.drop 24 = dktX4_holds_1 := dk_seg dksX4_holds_0 24 rfl rfl
theorem dX4_holds_0 : decode cX4_holds 0 = .ok (.aload_n 0, 1) := dk_42 (dk_at dksX4_holds_0 0 rfl rfl)
theorem dX4_holds_1 : decode cX4_holds 1 = .ok (.aload_n 0, 1) := dk_42 (dk_at dksX4_holds_0 1 rfl rfl)
theorem dX4_holds_2 : decode cX4_holds 2 = .ok (.iload_n 1, 1) := dk_27 (dk_at dksX4_holds_0 2 rfl rfl)
theorem dX4_holds_3 : decode cX4_holds 3 = .ok (.invokevirtual 176, 3) := dk_182 0 176 (dk_at dksX4_holds_0 3 rfl rfl)
theorem dX4_holds_6 : decode cX4_holds 6 = .ok (.putfield 131, 3) := dk_181 0 131 (dk_at dksX4_holds_0 6 rfl rfl)
theorem dX4_holds_9 : decode cX4_holds 9 = .ok (.aload_n 0, 1) := dk_42 (dk_at dksX4_holds_0 9 rfl rfl)
theorem dX4_holds_10 : decode cX4_holds 10 = .ok (.getfield 131, 3) := dk_180 0 131 (dk_at dksX4_holds_0 10 rfl rfl)
theorem dX4_holds_13 : decode cX4_holds 13 = .ok (.iconst (-1), 1) := dk_2 (dk_at dksX4_holds_0 13 rfl rfl)
theorem dX4_holds_14 : decode cX4_holds 14 = .ok (.if_icmp .eq 10, 3) := dk_159 0 10 (dk_at dksX4_holds_0 14 rfl rfl)
theorem dX4_holds_17 : decode cX4_holds 17 = .ok (.aload_n 0, 1) := dk_42 (dk_at dksX4_holds_0 17 rfl rfl)
theorem dX4_holds_18 : decode cX4_holds 18 = .ok (.invokevirtual 148, 3) := dk_182 0 148 (dk_at dksX4_holds_0 18 rfl rfl)
theorem dX4_holds_21 : decode cX4_holds 21 = .ok (.ifCond .eq 7, 3) := dk_153 0 7 (dk_at dksX4_holds_0 21 rfl rfl)
theorem dX4_holds_24 : decode cX4_holds 24 = .ok (.iconst 1, 1) := dk_4 (dk_at dksX4_holds_1 0 rfl rfl)
theorem dX4_holds_25 : decode cX4_holds 25 = .ok (.goto 4, 3) := dk_167 0 4 (dk_at dksX4_holds_1 1 rfl rfl)
theorem dX4_holds_28 : decode cX4_holds 28 = .ok (.iconst 0, 1) := dk_3 (dk_at dksX4_holds_1 4 rfl rfl)
theorem dX4_holds_29 : decode cX4_holds 29 = .ok (.ireturn, 1) := dk_172 (dk_at dksX4_holds_1 5 rfl rfl)
abbrev cX4_testOf : ByteArray := prog_40_method_29_code
def yX4_testOf : MethodName := ⟨RX4, "testOf", "(I)I"⟩
def dkwX4_testOf_2 : List UInt8 := [180, 0, 128, 28, 46, 16, 9, 160, 0, 9, 28, 4, 96, 167, 0, 4, 2, 172]
abbrev dktX4_testOf_2 : List UInt8 := dkwX4_testOf_2 ++ []
def dkwX4_testOf_1 : List UInt8 := [42, 180, 0, 20, 180, 0, 128, 28, 46, 16, 23, 159, 0, 9, 132, 2, 1, 167, 255, 225, 42, 180, 0, 20]
abbrev dktX4_testOf_1 : List UInt8 := dkwX4_testOf_1 ++ dktX4_testOf_2
def dkwX4_testOf_0 : List UInt8 := [42, 180, 0, 20, 180, 0, 173, 27, 46, 61, 42, 180, 0, 20, 180, 0, 128, 28, 46, 16, 9, 159, 0, 23]
abbrev dktX4_testOf_0 : List UInt8 := dkwX4_testOf_0 ++ dktX4_testOf_1
theorem dksX4_testOf_0 : cX4_testOf.data.toList.drop 0 = dktX4_testOf_0 := by decide +kernel
theorem dksX4_testOf_1 : cX4_testOf.data.toList.drop 24 = dktX4_testOf_1 := dk_seg dksX4_testOf_0 24 rfl rfl
theorem dksX4_testOf_2 : cX4_testOf.data.toList.drop 48 = dktX4_testOf_2 := dk_seg dksX4_testOf_1 24 rfl rfl
theorem dX4_testOf_0 : decode cX4_testOf 0 = .ok (.aload_n 0, 1) := dk_42 (dk_at dksX4_testOf_0 0 rfl rfl)
theorem dX4_testOf_1 : decode cX4_testOf 1 = .ok (.getfield 20, 3) := dk_180 0 20 (dk_at dksX4_testOf_0 1 rfl rfl)
theorem dX4_testOf_4 : decode cX4_testOf 4 = .ok (.getfield 173, 3) := dk_180 0 173 (dk_at dksX4_testOf_0 4 rfl rfl)
theorem dX4_testOf_7 : decode cX4_testOf 7 = .ok (.iload_n 1, 1) := dk_27 (dk_at dksX4_testOf_0 7 rfl rfl)
theorem dX4_testOf_8 : decode cX4_testOf 8 = .ok (.iaload, 1) := dk_46 (dk_at dksX4_testOf_0 8 rfl rfl)
theorem dX4_testOf_9 : decode cX4_testOf 9 = .ok (.istore_n 2, 1) := dk_61 (dk_at dksX4_testOf_0 9 rfl rfl)
theorem dX4_testOf_10 : decode cX4_testOf 10 = .ok (.aload_n 0, 1) := dk_42 (dk_at dksX4_testOf_0 10 rfl rfl)
theorem dX4_testOf_11 : decode cX4_testOf 11 = .ok (.getfield 20, 3) := dk_180 0 20 (dk_at dksX4_testOf_0 11 rfl rfl)
theorem dX4_testOf_14 : decode cX4_testOf 14 = .ok (.getfield 128, 3) := dk_180 0 128 (dk_at dksX4_testOf_0 14 rfl rfl)
theorem dX4_testOf_17 : decode cX4_testOf 17 = .ok (.iload_n 2, 1) := dk_28 (dk_at dksX4_testOf_0 17 rfl rfl)
theorem dX4_testOf_18 : decode cX4_testOf 18 = .ok (.iaload, 1) := dk_46 (dk_at dksX4_testOf_0 18 rfl rfl)
theorem dX4_testOf_19 : decode cX4_testOf 19 = .ok (.bipush 9, 2) := dk_16 9 (dk_at dksX4_testOf_0 19 rfl rfl)
theorem dX4_testOf_21 : decode cX4_testOf 21 = .ok (.if_icmp .eq 23, 3) := dk_159 0 23 (dk_at dksX4_testOf_0 21 rfl rfl)
theorem dX4_testOf_24 : decode cX4_testOf 24 = .ok (.aload_n 0, 1) := dk_42 (dk_at dksX4_testOf_1 0 rfl rfl)
theorem dX4_testOf_25 : decode cX4_testOf 25 = .ok (.getfield 20, 3) := dk_180 0 20 (dk_at dksX4_testOf_1 1 rfl rfl)
theorem dX4_testOf_28 : decode cX4_testOf 28 = .ok (.getfield 128, 3) := dk_180 0 128 (dk_at dksX4_testOf_1 4 rfl rfl)
theorem dX4_testOf_31 : decode cX4_testOf 31 = .ok (.iload_n 2, 1) := dk_28 (dk_at dksX4_testOf_1 7 rfl rfl)
theorem dX4_testOf_32 : decode cX4_testOf 32 = .ok (.iaload, 1) := dk_46 (dk_at dksX4_testOf_1 8 rfl rfl)
theorem dX4_testOf_33 : decode cX4_testOf 33 = .ok (.bipush 23, 2) := dk_16 23 (dk_at dksX4_testOf_1 9 rfl rfl)
theorem dX4_testOf_35 : decode cX4_testOf 35 = .ok (.if_icmp .eq 9, 3) := dk_159 0 9 (dk_at dksX4_testOf_1 11 rfl rfl)
theorem dX4_testOf_38 : decode cX4_testOf 38 = .ok (.iinc 2 1, 3) := dk_132 2 1 (dk_at dksX4_testOf_1 14 rfl rfl)
theorem dX4_testOf_41 : decode cX4_testOf 41 = .ok (.goto (-31), 3) := dk_167 255 225 (dk_at dksX4_testOf_1 17 rfl rfl)
theorem dX4_testOf_44 : decode cX4_testOf 44 = .ok (.aload_n 0, 1) := dk_42 (dk_at dksX4_testOf_1 20 rfl rfl)
theorem dX4_testOf_45 : decode cX4_testOf 45 = .ok (.getfield 20, 3) := dk_180 0 20 (dk_at dksX4_testOf_1 21 rfl rfl)
theorem dX4_testOf_48 : decode cX4_testOf 48 = .ok (.getfield 128, 3) := dk_180 0 128 (dk_at dksX4_testOf_2 0 rfl rfl)
theorem dX4_testOf_51 : decode cX4_testOf 51 = .ok (.iload_n 2, 1) := dk_28 (dk_at dksX4_testOf_2 3 rfl rfl)
theorem dX4_testOf_52 : decode cX4_testOf 52 = .ok (.iaload, 1) := dk_46 (dk_at dksX4_testOf_2 4 rfl rfl)
theorem dX4_testOf_53 : decode cX4_testOf 53 = .ok (.bipush 9, 2) := dk_16 9 (dk_at dksX4_testOf_2 5 rfl rfl)
theorem dX4_testOf_55 : decode cX4_testOf 55 = .ok (.if_icmp .ne 9, 3) := dk_160 0 9 (dk_at dksX4_testOf_2 7 rfl rfl)
theorem dX4_testOf_58 : decode cX4_testOf 58 = .ok (.iload_n 2, 1) := dk_28 (dk_at dksX4_testOf_2 10 rfl rfl)
theorem dX4_testOf_59 : decode cX4_testOf 59 = .ok (.iconst 1, 1) := dk_4 (dk_at dksX4_testOf_2 11 rfl rfl)
theorem dX4_testOf_60 : decode cX4_testOf 60 = .ok (.iadd, 1) := dk_96 (dk_at dksX4_testOf_2 12 rfl rfl)
theorem dX4_testOf_61 : decode cX4_testOf 61 = .ok (.goto 4, 3) := dk_167 0 4 (dk_at dksX4_testOf_2 13 rfl rfl)
theorem dX4_testOf_64 : decode cX4_testOf 64 = .ok (.iconst (-1), 1) := dk_2 (dk_at dksX4_testOf_2 16 rfl rfl)
theorem dX4_testOf_65 : decode cX4_testOf 65 = .ok (.ireturn, 1) := dk_172 (dk_at dksX4_testOf_2 17 rfl rfl)
abbrev cX4_test : ByteArray := prog_40_method_22_code
def yX4_test : MethodName := ⟨RX4, "test", "()Z"⟩
def dkwX4_test_1 : List UInt8 := [27, 172]
abbrev dktX4_test_1 : List UInt8 := dkwX4_test_1 ++ []
def dkwX4_test_0 : List UInt8 := [42, 182, 0, 137, 60, 42, 16, 17, 182, 0, 141, 153, 0, 13, 27, 42, 182, 0, 137, 128, 60, 167, 255, 240]
abbrev dktX4_test_0 : List UInt8 := dkwX4_test_0 ++ dktX4_test_1
theorem dksX4_test_0 : cX4_test.data.toList.drop 0 = dktX4_test_0 := by decide +kernel
theorem dksX4_test_1 : cX4_test.data.toList.drop 24 = dktX4_test_1 := dk_seg dksX4_test_0 24 rfl rfl
theorem dX4_test_0 : decode cX4_test 0 = .ok (.aload_n 0, 1) := dk_42 (dk_at dksX4_test_0 0 rfl rfl)
theorem dX4_test_1 : decode cX4_test 1 = .ok (.invokevirtual 137, 3) := dk_182 0 137 (dk_at dksX4_test_0 1 rfl rfl)
theorem dX4_test_4 : decode cX4_test 4 = .ok (.istore_n 1, 1) := dk_60 (dk_at dksX4_test_0 4 rfl rfl)
theorem dX4_test_5 : decode cX4_test 5 = .ok (.aload_n 0, 1) := dk_42 (dk_at dksX4_test_0 5 rfl rfl)
theorem dX4_test_6 : decode cX4_test 6 = .ok (.bipush 17, 2) := dk_16 17 (dk_at dksX4_test_0 6 rfl rfl)
theorem dX4_test_8 : decode cX4_test 8 = .ok (.invokevirtual 141, 3) := dk_182 0 141 (dk_at dksX4_test_0 8 rfl rfl)
theorem dX4_test_11 : decode cX4_test 11 = .ok (.ifCond .eq 13, 3) := dk_153 0 13 (dk_at dksX4_test_0 11 rfl rfl)
theorem dX4_test_14 : decode cX4_test 14 = .ok (.iload_n 1, 1) := dk_27 (dk_at dksX4_test_0 14 rfl rfl)
theorem dX4_test_15 : decode cX4_test 15 = .ok (.aload_n 0, 1) := dk_42 (dk_at dksX4_test_0 15 rfl rfl)
theorem dX4_test_16 : decode cX4_test 16 = .ok (.invokevirtual 137, 3) := dk_182 0 137 (dk_at dksX4_test_0 16 rfl rfl)
theorem dX4_test_19 : decode cX4_test 19 = .ok (.ior, 1) := dk_128 (dk_at dksX4_test_0 19 rfl rfl)
theorem dX4_test_20 : decode cX4_test 20 = .ok (.istore_n 1, 1) := dk_60 (dk_at dksX4_test_0 20 rfl rfl)
theorem dX4_test_21 : decode cX4_test 21 = .ok (.goto (-16), 3) := dk_167 255 240 (dk_at dksX4_test_0 21 rfl rfl)
theorem dX4_test_24 : decode cX4_test 24 = .ok (.iload_n 1, 1) := dk_27 (dk_at dksX4_test_1 0 rfl rfl)
theorem dX4_test_25 : decode cX4_test 25 = .ok (.ireturn, 1) := dk_172 (dk_at dksX4_test_1 1 rfl rfl)
abbrev cX4_both : ByteArray := prog_40_method_23_code
def yX4_both : MethodName := ⟨RX4, "both", "()Z"⟩
def dkwX4_both_1 : List UInt8 := [27, 172]
abbrev dktX4_both_1 : List UInt8 := dkwX4_both_1 ++ []
def dkwX4_both_0 : List UInt8 := [42, 182, 0, 145, 60, 42, 16, 16, 182, 0, 141, 153, 0, 13, 27, 42, 182, 0, 145, 126, 60, 167, 255, 240]
abbrev dktX4_both_0 : List UInt8 := dkwX4_both_0 ++ dktX4_both_1
theorem dksX4_both_0 : cX4_both.data.toList.drop 0 = dktX4_both_0 := by decide +kernel
theorem dksX4_both_1 : cX4_both.data.toList.drop 24 = dktX4_both_1 := dk_seg dksX4_both_0 24 rfl rfl
theorem dX4_both_0 : decode cX4_both 0 = .ok (.aload_n 0, 1) := dk_42 (dk_at dksX4_both_0 0 rfl rfl)
theorem dX4_both_1 : decode cX4_both 1 = .ok (.invokevirtual 145, 3) := dk_182 0 145 (dk_at dksX4_both_0 1 rfl rfl)
theorem dX4_both_4 : decode cX4_both 4 = .ok (.istore_n 1, 1) := dk_60 (dk_at dksX4_both_0 4 rfl rfl)
theorem dX4_both_5 : decode cX4_both 5 = .ok (.aload_n 0, 1) := dk_42 (dk_at dksX4_both_0 5 rfl rfl)
theorem dX4_both_6 : decode cX4_both 6 = .ok (.bipush 16, 2) := dk_16 16 (dk_at dksX4_both_0 6 rfl rfl)
theorem dX4_both_8 : decode cX4_both 8 = .ok (.invokevirtual 141, 3) := dk_182 0 141 (dk_at dksX4_both_0 8 rfl rfl)
theorem dX4_both_11 : decode cX4_both 11 = .ok (.ifCond .eq 13, 3) := dk_153 0 13 (dk_at dksX4_both_0 11 rfl rfl)
theorem dX4_both_14 : decode cX4_both 14 = .ok (.iload_n 1, 1) := dk_27 (dk_at dksX4_both_0 14 rfl rfl)
theorem dX4_both_15 : decode cX4_both 15 = .ok (.aload_n 0, 1) := dk_42 (dk_at dksX4_both_0 15 rfl rfl)
theorem dX4_both_16 : decode cX4_both 16 = .ok (.invokevirtual 145, 3) := dk_182 0 145 (dk_at dksX4_both_0 16 rfl rfl)
theorem dX4_both_19 : decode cX4_both 19 = .ok (.iand, 1) := dk_126 (dk_at dksX4_both_0 19 rfl rfl)
theorem dX4_both_20 : decode cX4_both 20 = .ok (.istore_n 1, 1) := dk_60 (dk_at dksX4_both_0 20 rfl rfl)
theorem dX4_both_21 : decode cX4_both 21 = .ok (.goto (-16), 3) := dk_167 255 240 (dk_at dksX4_both_0 21 rfl rfl)
theorem dX4_both_24 : decode cX4_both 24 = .ok (.iload_n 1, 1) := dk_27 (dk_at dksX4_both_1 0 rfl rfl)
theorem dX4_both_25 : decode cX4_both 25 = .ok (.ireturn, 1) := dk_172 (dk_at dksX4_both_1 1 rfl rfl)
abbrev cX4_single : ByteArray := prog_40_method_24_code
def yX4_single : MethodName := ⟨RX4, "single", "()Z"⟩
def dkwX4_single_8 : List UInt8 := [161, 0, 7, 4, 167, 0, 4, 3, 172]
abbrev dktX4_single_8 : List UInt8 := dkwX4_single_8 ++ []
def dkwX4_single_7 : List UInt8 := [160, 0, 7, 4, 167, 0, 4, 3, 172, 27, 29, 163, 0, 7, 4, 167, 0, 4, 3, 172, 27, 29]
abbrev dktX4_single_7 : List UInt8 := dkwX4_single_7 ++ dktX4_single_8
def dkwX4_single_6 : List UInt8 := [27, 29, 162, 0, 7, 4, 167, 0, 4, 3, 172, 27, 29, 164, 0, 7, 4, 167, 0, 4, 3, 172, 27, 29]
abbrev dktX4_single_6 : List UInt8 := dkwX4_single_6 ++ dktX4_single_7
def dkwX4_single_5 : List UInt8 := [170, 0, 0, 0, 73, 0, 0, 0, 32, 0, 0, 0, 35, 0, 0, 0, 29, 0, 0, 0, 40, 0, 0, 0, 51, 0, 0, 0, 62]
abbrev dktX4_single_5 : List UInt8 := dkwX4_single_5 ++ dktX4_single_6
def dkwX4_single_4 : List UInt8 := [180, 0, 131, 46, 61, 42, 89, 180, 0, 131, 4, 96, 181, 0, 131, 42, 182, 0, 158, 62, 28]
abbrev dktX4_single_4 : List UInt8 := dkwX4_single_4 ++ dktX4_single_5
def dkwX4_single_3 : List UInt8 := [4, 160, 0, 7, 4, 167, 0, 4, 3, 172, 42, 182, 0, 158, 60, 42, 180, 0, 41, 180, 0, 128, 42]
abbrev dktX4_single_3 : List UInt8 := dkwX4_single_3 ++ dktX4_single_4
def dkwX4_single_2 : List UInt8 := [172, 42, 16, 14, 182, 0, 141, 153, 0, 27, 42, 182, 0, 151, 60, 42, 27, 42, 182, 0, 151, 182, 0, 155]
abbrev dktX4_single_2 : List UInt8 := dkwX4_single_2 ++ dktX4_single_3
def dkwX4_single_1 : List UInt8 := [16, 26, 182, 0, 141, 153, 0, 20, 42, 182, 0, 148, 60, 42, 89, 180, 0, 131, 4, 96, 181, 0, 131, 27]
abbrev dktX4_single_1 : List UInt8 := dkwX4_single_1 ++ dktX4_single_2
def dkwX4_single_0 : List UInt8 := [42, 16, 15, 182, 0, 141, 153, 0, 16, 42, 182, 0, 145, 154, 0, 7, 4, 167, 0, 4, 3, 172, 42]
abbrev dktX4_single_0 : List UInt8 := dkwX4_single_0 ++ dktX4_single_1
theorem dksX4_single_0 : cX4_single.data.toList.drop 0 = dktX4_single_0 := by decide +kernel
theorem dksX4_single_1 : cX4_single.data.toList.drop 23 = dktX4_single_1 := dk_seg dksX4_single_0 23 rfl rfl
theorem dksX4_single_2 : cX4_single.data.toList.drop 47 = dktX4_single_2 := dk_seg dksX4_single_1 24 rfl rfl
theorem dksX4_single_3 : cX4_single.data.toList.drop 71 = dktX4_single_3 := dk_seg dksX4_single_2 24 rfl rfl
theorem dksX4_single_4 : cX4_single.data.toList.drop 94 = dktX4_single_4 := dk_seg dksX4_single_3 23 rfl rfl
theorem dksX4_single_5 : cX4_single.data.toList.drop 115 = dktX4_single_5 := dk_seg dksX4_single_4 21 rfl rfl
theorem dksX4_single_6 : cX4_single.data.toList.drop 144 = dktX4_single_6 := dk_seg dksX4_single_5 29 rfl rfl
theorem dksX4_single_7 : cX4_single.data.toList.drop 168 = dktX4_single_7 := dk_seg dksX4_single_6 24 rfl rfl
theorem dksX4_single_8 : cX4_single.data.toList.drop 190 = dktX4_single_8 := dk_seg dksX4_single_7 22 rfl rfl
theorem dX4_single_0 : decode cX4_single 0 = .ok (.aload_n 0, 1) := dk_42 (dk_at dksX4_single_0 0 rfl rfl)
theorem dX4_single_1 : decode cX4_single 1 = .ok (.bipush 15, 2) := dk_16 15 (dk_at dksX4_single_0 1 rfl rfl)
theorem dX4_single_3 : decode cX4_single 3 = .ok (.invokevirtual 141, 3) := dk_182 0 141 (dk_at dksX4_single_0 3 rfl rfl)
theorem dX4_single_6 : decode cX4_single 6 = .ok (.ifCond .eq 16, 3) := dk_153 0 16 (dk_at dksX4_single_0 6 rfl rfl)
theorem dX4_single_9 : decode cX4_single 9 = .ok (.aload_n 0, 1) := dk_42 (dk_at dksX4_single_0 9 rfl rfl)
theorem dX4_single_10 : decode cX4_single 10 = .ok (.invokevirtual 145, 3) := dk_182 0 145 (dk_at dksX4_single_0 10 rfl rfl)
theorem dX4_single_13 : decode cX4_single 13 = .ok (.ifCond .ne 7, 3) := dk_154 0 7 (dk_at dksX4_single_0 13 rfl rfl)
theorem dX4_single_16 : decode cX4_single 16 = .ok (.iconst 1, 1) := dk_4 (dk_at dksX4_single_0 16 rfl rfl)
theorem dX4_single_17 : decode cX4_single 17 = .ok (.goto 4, 3) := dk_167 0 4 (dk_at dksX4_single_0 17 rfl rfl)
theorem dX4_single_20 : decode cX4_single 20 = .ok (.iconst 0, 1) := dk_3 (dk_at dksX4_single_0 20 rfl rfl)
theorem dX4_single_21 : decode cX4_single 21 = .ok (.ireturn, 1) := dk_172 (dk_at dksX4_single_0 21 rfl rfl)
theorem dX4_single_22 : decode cX4_single 22 = .ok (.aload_n 0, 1) := dk_42 (dk_at dksX4_single_0 22 rfl rfl)
theorem dX4_single_23 : decode cX4_single 23 = .ok (.bipush 26, 2) := dk_16 26 (dk_at dksX4_single_1 0 rfl rfl)
theorem dX4_single_25 : decode cX4_single 25 = .ok (.invokevirtual 141, 3) := dk_182 0 141 (dk_at dksX4_single_1 2 rfl rfl)
theorem dX4_single_28 : decode cX4_single 28 = .ok (.ifCond .eq 20, 3) := dk_153 0 20 (dk_at dksX4_single_1 5 rfl rfl)
theorem dX4_single_31 : decode cX4_single 31 = .ok (.aload_n 0, 1) := dk_42 (dk_at dksX4_single_1 8 rfl rfl)
theorem dX4_single_32 : decode cX4_single 32 = .ok (.invokevirtual 148, 3) := dk_182 0 148 (dk_at dksX4_single_1 9 rfl rfl)
theorem dX4_single_35 : decode cX4_single 35 = .ok (.istore_n 1, 1) := dk_60 (dk_at dksX4_single_1 12 rfl rfl)
theorem dX4_single_36 : decode cX4_single 36 = .ok (.aload_n 0, 1) := dk_42 (dk_at dksX4_single_1 13 rfl rfl)
theorem dX4_single_37 : decode cX4_single 37 = .ok (.dup, 1) := dk_89 (dk_at dksX4_single_1 14 rfl rfl)
theorem dX4_single_38 : decode cX4_single 38 = .ok (.getfield 131, 3) := dk_180 0 131 (dk_at dksX4_single_1 15 rfl rfl)
theorem dX4_single_41 : decode cX4_single 41 = .ok (.iconst 1, 1) := dk_4 (dk_at dksX4_single_1 18 rfl rfl)
theorem dX4_single_42 : decode cX4_single 42 = .ok (.iadd, 1) := dk_96 (dk_at dksX4_single_1 19 rfl rfl)
theorem dX4_single_43 : decode cX4_single 43 = .ok (.putfield 131, 3) := dk_181 0 131 (dk_at dksX4_single_1 20 rfl rfl)
theorem dX4_single_46 : decode cX4_single 46 = .ok (.iload_n 1, 1) := dk_27 (dk_at dksX4_single_1 23 rfl rfl)
theorem dX4_single_47 : decode cX4_single 47 = .ok (.ireturn, 1) := dk_172 (dk_at dksX4_single_2 0 rfl rfl)
theorem dX4_single_48 : decode cX4_single 48 = .ok (.aload_n 0, 1) := dk_42 (dk_at dksX4_single_2 1 rfl rfl)
theorem dX4_single_49 : decode cX4_single 49 = .ok (.bipush 14, 2) := dk_16 14 (dk_at dksX4_single_2 2 rfl rfl)
theorem dX4_single_51 : decode cX4_single 51 = .ok (.invokevirtual 141, 3) := dk_182 0 141 (dk_at dksX4_single_2 4 rfl rfl)
theorem dX4_single_54 : decode cX4_single 54 = .ok (.ifCond .eq 27, 3) := dk_153 0 27 (dk_at dksX4_single_2 7 rfl rfl)
theorem dX4_single_57 : decode cX4_single 57 = .ok (.aload_n 0, 1) := dk_42 (dk_at dksX4_single_2 10 rfl rfl)
theorem dX4_single_58 : decode cX4_single 58 = .ok (.invokevirtual 151, 3) := dk_182 0 151 (dk_at dksX4_single_2 11 rfl rfl)
theorem dX4_single_61 : decode cX4_single 61 = .ok (.istore_n 1, 1) := dk_60 (dk_at dksX4_single_2 14 rfl rfl)
theorem dX4_single_62 : decode cX4_single 62 = .ok (.aload_n 0, 1) := dk_42 (dk_at dksX4_single_2 15 rfl rfl)
theorem dX4_single_63 : decode cX4_single 63 = .ok (.iload_n 1, 1) := dk_27 (dk_at dksX4_single_2 16 rfl rfl)
theorem dX4_single_64 : decode cX4_single 64 = .ok (.aload_n 0, 1) := dk_42 (dk_at dksX4_single_2 17 rfl rfl)
theorem dX4_single_65 : decode cX4_single 65 = .ok (.invokevirtual 151, 3) := dk_182 0 151 (dk_at dksX4_single_2 18 rfl rfl)
theorem dX4_single_68 : decode cX4_single 68 = .ok (.invokevirtual 155, 3) := dk_182 0 155 (dk_at dksX4_single_2 21 rfl rfl)
theorem dX4_single_71 : decode cX4_single 71 = .ok (.iconst 1, 1) := dk_4 (dk_at dksX4_single_3 0 rfl rfl)
theorem dX4_single_72 : decode cX4_single 72 = .ok (.if_icmp .ne 7, 3) := dk_160 0 7 (dk_at dksX4_single_3 1 rfl rfl)
theorem dX4_single_75 : decode cX4_single 75 = .ok (.iconst 1, 1) := dk_4 (dk_at dksX4_single_3 4 rfl rfl)
theorem dX4_single_76 : decode cX4_single 76 = .ok (.goto 4, 3) := dk_167 0 4 (dk_at dksX4_single_3 5 rfl rfl)
theorem dX4_single_79 : decode cX4_single 79 = .ok (.iconst 0, 1) := dk_3 (dk_at dksX4_single_3 8 rfl rfl)
theorem dX4_single_80 : decode cX4_single 80 = .ok (.ireturn, 1) := dk_172 (dk_at dksX4_single_3 9 rfl rfl)
theorem dX4_single_81 : decode cX4_single 81 = .ok (.aload_n 0, 1) := dk_42 (dk_at dksX4_single_3 10 rfl rfl)
theorem dX4_single_82 : decode cX4_single 82 = .ok (.invokevirtual 158, 3) := dk_182 0 158 (dk_at dksX4_single_3 11 rfl rfl)
theorem dX4_single_85 : decode cX4_single 85 = .ok (.istore_n 1, 1) := dk_60 (dk_at dksX4_single_3 14 rfl rfl)
theorem dX4_single_86 : decode cX4_single 86 = .ok (.aload_n 0, 1) := dk_42 (dk_at dksX4_single_3 15 rfl rfl)
theorem dX4_single_87 : decode cX4_single 87 = .ok (.getfield 41, 3) := dk_180 0 41 (dk_at dksX4_single_3 16 rfl rfl)
theorem dX4_single_90 : decode cX4_single 90 = .ok (.getfield 128, 3) := dk_180 0 128 (dk_at dksX4_single_3 19 rfl rfl)
theorem dX4_single_93 : decode cX4_single 93 = .ok (.aload_n 0, 1) := dk_42 (dk_at dksX4_single_3 22 rfl rfl)
theorem dX4_single_94 : decode cX4_single 94 = .ok (.getfield 131, 3) := dk_180 0 131 (dk_at dksX4_single_4 0 rfl rfl)
theorem dX4_single_97 : decode cX4_single 97 = .ok (.iaload, 1) := dk_46 (dk_at dksX4_single_4 3 rfl rfl)
theorem dX4_single_98 : decode cX4_single 98 = .ok (.istore_n 2, 1) := dk_61 (dk_at dksX4_single_4 4 rfl rfl)
theorem dX4_single_99 : decode cX4_single 99 = .ok (.aload_n 0, 1) := dk_42 (dk_at dksX4_single_4 5 rfl rfl)
theorem dX4_single_100 : decode cX4_single 100 = .ok (.dup, 1) := dk_89 (dk_at dksX4_single_4 6 rfl rfl)
theorem dX4_single_101 : decode cX4_single 101 = .ok (.getfield 131, 3) := dk_180 0 131 (dk_at dksX4_single_4 7 rfl rfl)
theorem dX4_single_104 : decode cX4_single 104 = .ok (.iconst 1, 1) := dk_4 (dk_at dksX4_single_4 10 rfl rfl)
theorem dX4_single_105 : decode cX4_single 105 = .ok (.iadd, 1) := dk_96 (dk_at dksX4_single_4 11 rfl rfl)
theorem dX4_single_106 : decode cX4_single 106 = .ok (.putfield 131, 3) := dk_181 0 131 (dk_at dksX4_single_4 12 rfl rfl)
theorem dX4_single_109 : decode cX4_single 109 = .ok (.aload_n 0, 1) := dk_42 (dk_at dksX4_single_4 15 rfl rfl)
theorem dX4_single_110 : decode cX4_single 110 = .ok (.invokevirtual 158, 3) := dk_182 0 158 (dk_at dksX4_single_4 16 rfl rfl)
theorem dX4_single_113 : decode cX4_single 113 = .ok (.istore_n 3, 1) := dk_62 (dk_at dksX4_single_4 19 rfl rfl)
theorem dX4_single_114 : decode cX4_single 114 = .ok (.iload_n 2, 1) := dk_28 (dk_at dksX4_single_4 20 rfl rfl)
theorem dX4_single_115 : decode cX4_single 115 = .ok (.tableswitch 73 32 35 #[29, 40, 51, 62], 29) := by decide +kernel
theorem dX4_single_144 : decode cX4_single 144 = .ok (.iload_n 1, 1) := dk_27 (dk_at dksX4_single_6 0 rfl rfl)
theorem dX4_single_145 : decode cX4_single 145 = .ok (.iload_n 3, 1) := dk_29 (dk_at dksX4_single_6 1 rfl rfl)
theorem dX4_single_146 : decode cX4_single 146 = .ok (.if_icmp .ge 7, 3) := dk_162 0 7 (dk_at dksX4_single_6 2 rfl rfl)
theorem dX4_single_149 : decode cX4_single 149 = .ok (.iconst 1, 1) := dk_4 (dk_at dksX4_single_6 5 rfl rfl)
theorem dX4_single_150 : decode cX4_single 150 = .ok (.goto 4, 3) := dk_167 0 4 (dk_at dksX4_single_6 6 rfl rfl)
theorem dX4_single_153 : decode cX4_single 153 = .ok (.iconst 0, 1) := dk_3 (dk_at dksX4_single_6 9 rfl rfl)
theorem dX4_single_154 : decode cX4_single 154 = .ok (.ireturn, 1) := dk_172 (dk_at dksX4_single_6 10 rfl rfl)
theorem dX4_single_155 : decode cX4_single 155 = .ok (.iload_n 1, 1) := dk_27 (dk_at dksX4_single_6 11 rfl rfl)
theorem dX4_single_156 : decode cX4_single 156 = .ok (.iload_n 3, 1) := dk_29 (dk_at dksX4_single_6 12 rfl rfl)
theorem dX4_single_157 : decode cX4_single 157 = .ok (.if_icmp .le 7, 3) := dk_164 0 7 (dk_at dksX4_single_6 13 rfl rfl)
theorem dX4_single_160 : decode cX4_single 160 = .ok (.iconst 1, 1) := dk_4 (dk_at dksX4_single_6 16 rfl rfl)
theorem dX4_single_161 : decode cX4_single 161 = .ok (.goto 4, 3) := dk_167 0 4 (dk_at dksX4_single_6 17 rfl rfl)
theorem dX4_single_164 : decode cX4_single 164 = .ok (.iconst 0, 1) := dk_3 (dk_at dksX4_single_6 20 rfl rfl)
theorem dX4_single_165 : decode cX4_single 165 = .ok (.ireturn, 1) := dk_172 (dk_at dksX4_single_6 21 rfl rfl)
theorem dX4_single_166 : decode cX4_single 166 = .ok (.iload_n 1, 1) := dk_27 (dk_at dksX4_single_6 22 rfl rfl)
theorem dX4_single_167 : decode cX4_single 167 = .ok (.iload_n 3, 1) := dk_29 (dk_at dksX4_single_6 23 rfl rfl)
theorem dX4_single_168 : decode cX4_single 168 = .ok (.if_icmp .ne 7, 3) := dk_160 0 7 (dk_at dksX4_single_7 0 rfl rfl)
theorem dX4_single_171 : decode cX4_single 171 = .ok (.iconst 1, 1) := dk_4 (dk_at dksX4_single_7 3 rfl rfl)
theorem dX4_single_172 : decode cX4_single 172 = .ok (.goto 4, 3) := dk_167 0 4 (dk_at dksX4_single_7 4 rfl rfl)
theorem dX4_single_175 : decode cX4_single 175 = .ok (.iconst 0, 1) := dk_3 (dk_at dksX4_single_7 7 rfl rfl)
theorem dX4_single_176 : decode cX4_single 176 = .ok (.ireturn, 1) := dk_172 (dk_at dksX4_single_7 8 rfl rfl)
theorem dX4_single_177 : decode cX4_single 177 = .ok (.iload_n 1, 1) := dk_27 (dk_at dksX4_single_7 9 rfl rfl)
theorem dX4_single_178 : decode cX4_single 178 = .ok (.iload_n 3, 1) := dk_29 (dk_at dksX4_single_7 10 rfl rfl)
theorem dX4_single_179 : decode cX4_single 179 = .ok (.if_icmp .gt 7, 3) := dk_163 0 7 (dk_at dksX4_single_7 11 rfl rfl)
theorem dX4_single_182 : decode cX4_single 182 = .ok (.iconst 1, 1) := dk_4 (dk_at dksX4_single_7 14 rfl rfl)
theorem dX4_single_183 : decode cX4_single 183 = .ok (.goto 4, 3) := dk_167 0 4 (dk_at dksX4_single_7 15 rfl rfl)
theorem dX4_single_186 : decode cX4_single 186 = .ok (.iconst 0, 1) := dk_3 (dk_at dksX4_single_7 18 rfl rfl)
theorem dX4_single_187 : decode cX4_single 187 = .ok (.ireturn, 1) := dk_172 (dk_at dksX4_single_7 19 rfl rfl)
theorem dX4_single_188 : decode cX4_single 188 = .ok (.iload_n 1, 1) := dk_27 (dk_at dksX4_single_7 20 rfl rfl)
theorem dX4_single_189 : decode cX4_single 189 = .ok (.iload_n 3, 1) := dk_29 (dk_at dksX4_single_7 21 rfl rfl)
theorem dX4_single_190 : decode cX4_single 190 = .ok (.if_icmp .lt 7, 3) := dk_161 0 7 (dk_at dksX4_single_8 0 rfl rfl)
theorem dX4_single_193 : decode cX4_single 193 = .ok (.iconst 1, 1) := dk_4 (dk_at dksX4_single_8 3 rfl rfl)
theorem dX4_single_194 : decode cX4_single 194 = .ok (.goto 4, 3) := dk_167 0 4 (dk_at dksX4_single_8 4 rfl rfl)
theorem dX4_single_197 : decode cX4_single 197 = .ok (.iconst 0, 1) := dk_3 (dk_at dksX4_single_8 7 rfl rfl)
theorem dX4_single_198 : decode cX4_single 198 = .ok (.ireturn, 1) := dk_172 (dk_at dksX4_single_8 8 rfl rfl)
abbrev cX4_goesBy : ByteArray := prog_40_method_20_code
def yX4_goesBy : MethodName := ⟨RX4, "goesBy", "(I)Z"⟩
def dkwX4_goesBy_1 : List UInt8 := [96, 181, 0, 131, 4, 172]
abbrev dktX4_goesBy_1 : List UInt8 := dkwX4_goesBy_1 ++ []
def dkwX4_goesBy_0 : List UInt8 := [42, 180, 0, 41, 180, 0, 128, 42, 180, 0, 131, 46, 27, 159, 0, 5, 3, 172, 42, 89, 180, 0, 131, 4]
abbrev dktX4_goesBy_0 : List UInt8 := dkwX4_goesBy_0 ++ dktX4_goesBy_1
theorem dksX4_goesBy_0 : cX4_goesBy.data.toList.drop 0 = dktX4_goesBy_0 := by decide +kernel
theorem dksX4_goesBy_1 : cX4_goesBy.data.toList.drop 24 = dktX4_goesBy_1 := dk_seg dksX4_goesBy_0 24 rfl rfl
theorem dX4_goesBy_0 : decode cX4_goesBy 0 = .ok (.aload_n 0, 1) := dk_42 (dk_at dksX4_goesBy_0 0 rfl rfl)
theorem dX4_goesBy_1 : decode cX4_goesBy 1 = .ok (.getfield 41, 3) := dk_180 0 41 (dk_at dksX4_goesBy_0 1 rfl rfl)
theorem dX4_goesBy_4 : decode cX4_goesBy 4 = .ok (.getfield 128, 3) := dk_180 0 128 (dk_at dksX4_goesBy_0 4 rfl rfl)
theorem dX4_goesBy_7 : decode cX4_goesBy 7 = .ok (.aload_n 0, 1) := dk_42 (dk_at dksX4_goesBy_0 7 rfl rfl)
theorem dX4_goesBy_8 : decode cX4_goesBy 8 = .ok (.getfield 131, 3) := dk_180 0 131 (dk_at dksX4_goesBy_0 8 rfl rfl)
theorem dX4_goesBy_11 : decode cX4_goesBy 11 = .ok (.iaload, 1) := dk_46 (dk_at dksX4_goesBy_0 11 rfl rfl)
theorem dX4_goesBy_12 : decode cX4_goesBy 12 = .ok (.iload_n 1, 1) := dk_27 (dk_at dksX4_goesBy_0 12 rfl rfl)
theorem dX4_goesBy_13 : decode cX4_goesBy 13 = .ok (.if_icmp .eq 5, 3) := dk_159 0 5 (dk_at dksX4_goesBy_0 13 rfl rfl)
theorem dX4_goesBy_16 : decode cX4_goesBy 16 = .ok (.iconst 0, 1) := dk_3 (dk_at dksX4_goesBy_0 16 rfl rfl)
theorem dX4_goesBy_17 : decode cX4_goesBy 17 = .ok (.ireturn, 1) := dk_172 (dk_at dksX4_goesBy_0 17 rfl rfl)
theorem dX4_goesBy_18 : decode cX4_goesBy 18 = .ok (.aload_n 0, 1) := dk_42 (dk_at dksX4_goesBy_0 18 rfl rfl)
theorem dX4_goesBy_19 : decode cX4_goesBy 19 = .ok (.dup, 1) := dk_89 (dk_at dksX4_goesBy_0 19 rfl rfl)
theorem dX4_goesBy_20 : decode cX4_goesBy 20 = .ok (.getfield 131, 3) := dk_180 0 131 (dk_at dksX4_goesBy_0 20 rfl rfl)
theorem dX4_goesBy_23 : decode cX4_goesBy 23 = .ok (.iconst 1, 1) := dk_4 (dk_at dksX4_goesBy_0 23 rfl rfl)
theorem dX4_goesBy_24 : decode cX4_goesBy 24 = .ok (.iadd, 1) := dk_96 (dk_at dksX4_goesBy_1 0 rfl rfl)
theorem dX4_goesBy_25 : decode cX4_goesBy 25 = .ok (.putfield 131, 3) := dk_181 0 131 (dk_at dksX4_goesBy_1 1 rfl rfl)
theorem dX4_goesBy_28 : decode cX4_goesBy 28 = .ok (.iconst 1, 1) := dk_4 (dk_at dksX4_goesBy_1 4 rfl rfl)
theorem dX4_goesBy_29 : decode cX4_goesBy 29 = .ok (.ireturn, 1) := dk_172 (dk_at dksX4_goesBy_1 5 rfl rfl)
abbrev cX4_run : ByteArray := prog_40_method_100_code
def yX4_run : MethodName := ⟨RX4, "run", "()I"⟩
def dkwX4_run_3 : List UInt8 := [96, 181, 1, 129, 27, 172]
abbrev dktX4_run_3 : List UInt8 := dkwX4_run_3 ++ []
def dkwX4_run_2 : List UInt8 := [180, 0, 34, 28, 92, 46, 4, 96, 79, 132, 1, 1, 132, 2, 1, 167, 255, 218, 42, 89, 180, 1, 129, 27]
abbrev dktX4_run_2 : List UInt8 := dkwX4_run_2 ++ dktX4_run_3
def dkwX4_run_1 : List UInt8 := [61, 28, 42, 180, 0, 20, 180, 0, 76, 162, 0, 33, 42, 28, 182, 0, 186, 154, 0, 6, 167, 0, 16, 42]
abbrev dktX4_run_1 : List UInt8 := dkwX4_run_1 ++ dktX4_run_2
def dkwX4_run_0 : List UInt8 := [42, 3, 181, 0, 50, 42, 42, 180, 0, 27, 182, 1, 185, 42, 42, 180, 0, 27, 182, 1, 144, 3, 60, 3]
abbrev dktX4_run_0 : List UInt8 := dkwX4_run_0 ++ dktX4_run_1
theorem dksX4_run_0 : cX4_run.data.toList.drop 0 = dktX4_run_0 := by decide +kernel
theorem dksX4_run_1 : cX4_run.data.toList.drop 24 = dktX4_run_1 := dk_seg dksX4_run_0 24 rfl rfl
theorem dksX4_run_2 : cX4_run.data.toList.drop 48 = dktX4_run_2 := dk_seg dksX4_run_1 24 rfl rfl
theorem dksX4_run_3 : cX4_run.data.toList.drop 72 = dktX4_run_3 := dk_seg dksX4_run_2 24 rfl rfl
theorem dX4_run_0 : decode cX4_run 0 = .ok (.aload_n 0, 1) := dk_42 (dk_at dksX4_run_0 0 rfl rfl)
theorem dX4_run_1 : decode cX4_run 1 = .ok (.iconst 0, 1) := dk_3 (dk_at dksX4_run_0 1 rfl rfl)
theorem dX4_run_2 : decode cX4_run 2 = .ok (.putfield 50, 3) := dk_181 0 50 (dk_at dksX4_run_0 2 rfl rfl)
theorem dX4_run_5 : decode cX4_run 5 = .ok (.aload_n 0, 1) := dk_42 (dk_at dksX4_run_0 5 rfl rfl)
theorem dX4_run_6 : decode cX4_run 6 = .ok (.aload_n 0, 1) := dk_42 (dk_at dksX4_run_0 6 rfl rfl)
theorem dX4_run_7 : decode cX4_run 7 = .ok (.getfield 27, 3) := dk_180 0 27 (dk_at dksX4_run_0 7 rfl rfl)
theorem dX4_run_10 : decode cX4_run 10 = .ok (.invokevirtual 441, 3) := dk_182 1 185 (dk_at dksX4_run_0 10 rfl rfl)
theorem dX4_run_13 : decode cX4_run 13 = .ok (.aload_n 0, 1) := dk_42 (dk_at dksX4_run_0 13 rfl rfl)
theorem dX4_run_14 : decode cX4_run 14 = .ok (.aload_n 0, 1) := dk_42 (dk_at dksX4_run_0 14 rfl rfl)
theorem dX4_run_15 : decode cX4_run 15 = .ok (.getfield 27, 3) := dk_180 0 27 (dk_at dksX4_run_0 15 rfl rfl)
theorem dX4_run_18 : decode cX4_run 18 = .ok (.invokevirtual 400, 3) := dk_182 1 144 (dk_at dksX4_run_0 18 rfl rfl)
theorem dX4_run_21 : decode cX4_run 21 = .ok (.iconst 0, 1) := dk_3 (dk_at dksX4_run_0 21 rfl rfl)
theorem dX4_run_22 : decode cX4_run 22 = .ok (.istore_n 1, 1) := dk_60 (dk_at dksX4_run_0 22 rfl rfl)
theorem dX4_run_23 : decode cX4_run 23 = .ok (.iconst 0, 1) := dk_3 (dk_at dksX4_run_0 23 rfl rfl)
theorem dX4_run_24 : decode cX4_run 24 = .ok (.istore_n 2, 1) := dk_61 (dk_at dksX4_run_1 0 rfl rfl)
theorem dX4_run_25 : decode cX4_run 25 = .ok (.iload_n 2, 1) := dk_28 (dk_at dksX4_run_1 1 rfl rfl)
theorem dX4_run_26 : decode cX4_run 26 = .ok (.aload_n 0, 1) := dk_42 (dk_at dksX4_run_1 2 rfl rfl)
theorem dX4_run_27 : decode cX4_run 27 = .ok (.getfield 20, 3) := dk_180 0 20 (dk_at dksX4_run_1 3 rfl rfl)
theorem dX4_run_30 : decode cX4_run 30 = .ok (.getfield 76, 3) := dk_180 0 76 (dk_at dksX4_run_1 6 rfl rfl)
theorem dX4_run_33 : decode cX4_run 33 = .ok (.if_icmp .ge 33, 3) := dk_162 0 33 (dk_at dksX4_run_1 9 rfl rfl)
theorem dX4_run_36 : decode cX4_run 36 = .ok (.aload_n 0, 1) := dk_42 (dk_at dksX4_run_1 12 rfl rfl)
theorem dX4_run_37 : decode cX4_run 37 = .ok (.iload_n 2, 1) := dk_28 (dk_at dksX4_run_1 13 rfl rfl)
theorem dX4_run_38 : decode cX4_run 38 = .ok (.invokevirtual 186, 3) := dk_182 0 186 (dk_at dksX4_run_1 14 rfl rfl)
theorem dX4_run_41 : decode cX4_run 41 = .ok (.ifCond .ne 6, 3) := dk_154 0 6 (dk_at dksX4_run_1 17 rfl rfl)
theorem dX4_run_44 : decode cX4_run 44 = .ok (.goto 16, 3) := dk_167 0 16 (dk_at dksX4_run_1 20 rfl rfl)
theorem dX4_run_47 : decode cX4_run 47 = .ok (.aload_n 0, 1) := dk_42 (dk_at dksX4_run_1 23 rfl rfl)
theorem dX4_run_48 : decode cX4_run 48 = .ok (.getfield 34, 3) := dk_180 0 34 (dk_at dksX4_run_2 0 rfl rfl)
theorem dX4_run_51 : decode cX4_run 51 = .ok (.iload_n 2, 1) := dk_28 (dk_at dksX4_run_2 3 rfl rfl)
theorem dX4_run_52 : decode cX4_run 52 = .ok (.dup2, 1) := dk_92 (dk_at dksX4_run_2 4 rfl rfl)
theorem dX4_run_53 : decode cX4_run 53 = .ok (.iaload, 1) := dk_46 (dk_at dksX4_run_2 5 rfl rfl)
theorem dX4_run_54 : decode cX4_run 54 = .ok (.iconst 1, 1) := dk_4 (dk_at dksX4_run_2 6 rfl rfl)
theorem dX4_run_55 : decode cX4_run 55 = .ok (.iadd, 1) := dk_96 (dk_at dksX4_run_2 7 rfl rfl)
theorem dX4_run_56 : decode cX4_run 56 = .ok (.iastore, 1) := dk_79 (dk_at dksX4_run_2 8 rfl rfl)
theorem dX4_run_57 : decode cX4_run 57 = .ok (.iinc 1 1, 3) := dk_132 1 1 (dk_at dksX4_run_2 9 rfl rfl)
theorem dX4_run_60 : decode cX4_run 60 = .ok (.iinc 2 1, 3) := dk_132 2 1 (dk_at dksX4_run_2 12 rfl rfl)
theorem dX4_run_63 : decode cX4_run 63 = .ok (.goto (-38), 3) := dk_167 255 218 (dk_at dksX4_run_2 15 rfl rfl)
theorem dX4_run_66 : decode cX4_run 66 = .ok (.aload_n 0, 1) := dk_42 (dk_at dksX4_run_2 18 rfl rfl)
theorem dX4_run_67 : decode cX4_run 67 = .ok (.dup, 1) := dk_89 (dk_at dksX4_run_2 19 rfl rfl)
theorem dX4_run_68 : decode cX4_run 68 = .ok (.getfield 385, 3) := dk_180 1 129 (dk_at dksX4_run_2 20 rfl rfl)
theorem dX4_run_71 : decode cX4_run 71 = .ok (.iload_n 1, 1) := dk_27 (dk_at dksX4_run_2 23 rfl rfl)
theorem dX4_run_72 : decode cX4_run 72 = .ok (.iadd, 1) := dk_96 (dk_at dksX4_run_3 0 rfl rfl)
theorem dX4_run_73 : decode cX4_run 73 = .ok (.putfield 385, 3) := dk_181 1 129 (dk_at dksX4_run_3 1 rfl rfl)
theorem dX4_run_76 : decode cX4_run 76 = .ok (.iload_n 1, 1) := dk_27 (dk_at dksX4_run_3 4 rfl rfl)
theorem dX4_run_77 : decode cX4_run 77 = .ok (.ireturn, 1) := dk_172 (dk_at dksX4_run_3 5 rfl rfl)
abbrev cX4_undo : ByteArray := prog_40_method_101_code
def yX4_undo : MethodName := ⟨RX4, "undo", "()I"⟩
def dkwX4_undo_5 : List UInt8 := [28, 172]
abbrev dktX4_undo_5 : List UInt8 := dkwX4_undo_5 ++ []
def dkwX4_undo_4 : List UInt8 := [159, 0, 7, 4, 167, 0, 4, 3, 96, 61, 132, 3, 1, 167, 255, 198, 42, 180, 0, 27, 43, 182, 0, 195]
abbrev dktX4_undo_4 : List UInt8 := dkwX4_undo_4 ++ dktX4_undo_5
def dkwX4_undo_3 : List UInt8 := [180, 0, 85, 29, 46, 160, 0, 21, 43, 180, 0, 88, 29, 46, 42, 180, 0, 27, 180, 0, 88, 29, 46]
abbrev dktX4_undo_3 : List UInt8 := dkwX4_undo_3 ++ dktX4_undo_4
def dkwX4_undo_2 : List UInt8 := [3, 62, 29, 42, 180, 0, 20, 180, 0, 66, 162, 0, 53, 28, 43, 180, 0, 85, 29, 46, 42, 180, 0, 27]
abbrev dktX4_undo_2 : List UInt8 := dkwX4_undo_2 ++ dktX4_undo_3
def dkwX4_undo_1 : List UInt8 := [100, 181, 0, 189, 42, 180, 0, 37, 42, 180, 0, 192, 42, 180, 0, 189, 96, 16, 12, 112, 50, 76, 3, 61]
abbrev dktX4_undo_1 : List UInt8 := dkwX4_undo_1 ++ dktX4_undo_2
def dkwX4_undo_0 : List UInt8 := [42, 3, 181, 0, 50, 42, 180, 0, 189, 154, 0, 9, 42, 4, 182, 1, 122, 172, 42, 89, 180, 0, 189, 4]
abbrev dktX4_undo_0 : List UInt8 := dkwX4_undo_0 ++ dktX4_undo_1
theorem dksX4_undo_0 : cX4_undo.data.toList.drop 0 = dktX4_undo_0 := by decide +kernel
theorem dksX4_undo_1 : cX4_undo.data.toList.drop 24 = dktX4_undo_1 := dk_seg dksX4_undo_0 24 rfl rfl
theorem dksX4_undo_2 : cX4_undo.data.toList.drop 48 = dktX4_undo_2 := dk_seg dksX4_undo_1 24 rfl rfl
theorem dksX4_undo_3 : cX4_undo.data.toList.drop 72 = dktX4_undo_3 := dk_seg dksX4_undo_2 24 rfl rfl
theorem dksX4_undo_4 : cX4_undo.data.toList.drop 95 = dktX4_undo_4 := dk_seg dksX4_undo_3 23 rfl rfl
theorem dksX4_undo_5 : cX4_undo.data.toList.drop 119 = dktX4_undo_5 := dk_seg dksX4_undo_4 24 rfl rfl
theorem dX4_undo_0 : decode cX4_undo 0 = .ok (.aload_n 0, 1) := dk_42 (dk_at dksX4_undo_0 0 rfl rfl)
theorem dX4_undo_1 : decode cX4_undo 1 = .ok (.iconst 0, 1) := dk_3 (dk_at dksX4_undo_0 1 rfl rfl)
theorem dX4_undo_2 : decode cX4_undo 2 = .ok (.putfield 50, 3) := dk_181 0 50 (dk_at dksX4_undo_0 2 rfl rfl)
theorem dX4_undo_5 : decode cX4_undo 5 = .ok (.aload_n 0, 1) := dk_42 (dk_at dksX4_undo_0 5 rfl rfl)
theorem dX4_undo_6 : decode cX4_undo 6 = .ok (.getfield 189, 3) := dk_180 0 189 (dk_at dksX4_undo_0 6 rfl rfl)
theorem dX4_undo_9 : decode cX4_undo 9 = .ok (.ifCond .ne 9, 3) := dk_154 0 9 (dk_at dksX4_undo_0 9 rfl rfl)
theorem dX4_undo_12 : decode cX4_undo 12 = .ok (.aload_n 0, 1) := dk_42 (dk_at dksX4_undo_0 12 rfl rfl)
theorem dX4_undo_13 : decode cX4_undo 13 = .ok (.iconst 1, 1) := dk_4 (dk_at dksX4_undo_0 13 rfl rfl)
theorem dX4_undo_14 : decode cX4_undo 14 = .ok (.invokevirtual 378, 3) := dk_182 1 122 (dk_at dksX4_undo_0 14 rfl rfl)
theorem dX4_undo_17 : decode cX4_undo 17 = .ok (.ireturn, 1) := dk_172 (dk_at dksX4_undo_0 17 rfl rfl)
theorem dX4_undo_18 : decode cX4_undo 18 = .ok (.aload_n 0, 1) := dk_42 (dk_at dksX4_undo_0 18 rfl rfl)
theorem dX4_undo_19 : decode cX4_undo 19 = .ok (.dup, 1) := dk_89 (dk_at dksX4_undo_0 19 rfl rfl)
theorem dX4_undo_20 : decode cX4_undo 20 = .ok (.getfield 189, 3) := dk_180 0 189 (dk_at dksX4_undo_0 20 rfl rfl)
theorem dX4_undo_23 : decode cX4_undo 23 = .ok (.iconst 1, 1) := dk_4 (dk_at dksX4_undo_0 23 rfl rfl)
theorem dX4_undo_24 : decode cX4_undo 24 = .ok (.isub, 1) := dk_100 (dk_at dksX4_undo_1 0 rfl rfl)
theorem dX4_undo_25 : decode cX4_undo 25 = .ok (.putfield 189, 3) := dk_181 0 189 (dk_at dksX4_undo_1 1 rfl rfl)
theorem dX4_undo_28 : decode cX4_undo 28 = .ok (.aload_n 0, 1) := dk_42 (dk_at dksX4_undo_1 4 rfl rfl)
theorem dX4_undo_29 : decode cX4_undo 29 = .ok (.getfield 37, 3) := dk_180 0 37 (dk_at dksX4_undo_1 5 rfl rfl)
theorem dX4_undo_32 : decode cX4_undo 32 = .ok (.aload_n 0, 1) := dk_42 (dk_at dksX4_undo_1 8 rfl rfl)
theorem dX4_undo_33 : decode cX4_undo 33 = .ok (.getfield 192, 3) := dk_180 0 192 (dk_at dksX4_undo_1 9 rfl rfl)
theorem dX4_undo_36 : decode cX4_undo 36 = .ok (.aload_n 0, 1) := dk_42 (dk_at dksX4_undo_1 12 rfl rfl)
theorem dX4_undo_37 : decode cX4_undo 37 = .ok (.getfield 189, 3) := dk_180 0 189 (dk_at dksX4_undo_1 13 rfl rfl)
theorem dX4_undo_40 : decode cX4_undo 40 = .ok (.iadd, 1) := dk_96 (dk_at dksX4_undo_1 16 rfl rfl)
theorem dX4_undo_41 : decode cX4_undo 41 = .ok (.bipush 12, 2) := dk_16 12 (dk_at dksX4_undo_1 17 rfl rfl)
theorem dX4_undo_43 : decode cX4_undo 43 = .ok (.irem, 1) := dk_112 (dk_at dksX4_undo_1 19 rfl rfl)
theorem dX4_undo_44 : decode cX4_undo 44 = .ok (.aaload, 1) := dk_50 (dk_at dksX4_undo_1 20 rfl rfl)
theorem dX4_undo_45 : decode cX4_undo 45 = .ok (.astore_n 1, 1) := dk_76 (dk_at dksX4_undo_1 21 rfl rfl)
theorem dX4_undo_46 : decode cX4_undo 46 = .ok (.iconst 0, 1) := dk_3 (dk_at dksX4_undo_1 22 rfl rfl)
theorem dX4_undo_47 : decode cX4_undo 47 = .ok (.istore_n 2, 1) := dk_61 (dk_at dksX4_undo_1 23 rfl rfl)
theorem dX4_undo_48 : decode cX4_undo 48 = .ok (.iconst 0, 1) := dk_3 (dk_at dksX4_undo_2 0 rfl rfl)
theorem dX4_undo_49 : decode cX4_undo 49 = .ok (.istore_n 3, 1) := dk_62 (dk_at dksX4_undo_2 1 rfl rfl)
theorem dX4_undo_50 : decode cX4_undo 50 = .ok (.iload_n 3, 1) := dk_29 (dk_at dksX4_undo_2 2 rfl rfl)
theorem dX4_undo_51 : decode cX4_undo 51 = .ok (.aload_n 0, 1) := dk_42 (dk_at dksX4_undo_2 3 rfl rfl)
theorem dX4_undo_52 : decode cX4_undo 52 = .ok (.getfield 20, 3) := dk_180 0 20 (dk_at dksX4_undo_2 4 rfl rfl)
theorem dX4_undo_55 : decode cX4_undo 55 = .ok (.getfield 66, 3) := dk_180 0 66 (dk_at dksX4_undo_2 7 rfl rfl)
theorem dX4_undo_58 : decode cX4_undo 58 = .ok (.if_icmp .ge 53, 3) := dk_162 0 53 (dk_at dksX4_undo_2 10 rfl rfl)
theorem dX4_undo_61 : decode cX4_undo 61 = .ok (.iload_n 2, 1) := dk_28 (dk_at dksX4_undo_2 13 rfl rfl)
theorem dX4_undo_62 : decode cX4_undo 62 = .ok (.aload_n 1, 1) := dk_43 (dk_at dksX4_undo_2 14 rfl rfl)
theorem dX4_undo_63 : decode cX4_undo 63 = .ok (.getfield 85, 3) := dk_180 0 85 (dk_at dksX4_undo_2 15 rfl rfl)
theorem dX4_undo_66 : decode cX4_undo 66 = .ok (.iload_n 3, 1) := dk_29 (dk_at dksX4_undo_2 18 rfl rfl)
theorem dX4_undo_67 : decode cX4_undo 67 = .ok (.iaload, 1) := dk_46 (dk_at dksX4_undo_2 19 rfl rfl)
theorem dX4_undo_68 : decode cX4_undo 68 = .ok (.aload_n 0, 1) := dk_42 (dk_at dksX4_undo_2 20 rfl rfl)
theorem dX4_undo_69 : decode cX4_undo 69 = .ok (.getfield 27, 3) := dk_180 0 27 (dk_at dksX4_undo_2 21 rfl rfl)
theorem dX4_undo_72 : decode cX4_undo 72 = .ok (.getfield 85, 3) := dk_180 0 85 (dk_at dksX4_undo_3 0 rfl rfl)
theorem dX4_undo_75 : decode cX4_undo 75 = .ok (.iload_n 3, 1) := dk_29 (dk_at dksX4_undo_3 3 rfl rfl)
theorem dX4_undo_76 : decode cX4_undo 76 = .ok (.iaload, 1) := dk_46 (dk_at dksX4_undo_3 4 rfl rfl)
theorem dX4_undo_77 : decode cX4_undo 77 = .ok (.if_icmp .ne 21, 3) := dk_160 0 21 (dk_at dksX4_undo_3 5 rfl rfl)
theorem dX4_undo_80 : decode cX4_undo 80 = .ok (.aload_n 1, 1) := dk_43 (dk_at dksX4_undo_3 8 rfl rfl)
theorem dX4_undo_81 : decode cX4_undo 81 = .ok (.getfield 88, 3) := dk_180 0 88 (dk_at dksX4_undo_3 9 rfl rfl)
theorem dX4_undo_84 : decode cX4_undo 84 = .ok (.iload_n 3, 1) := dk_29 (dk_at dksX4_undo_3 12 rfl rfl)
theorem dX4_undo_85 : decode cX4_undo 85 = .ok (.iaload, 1) := dk_46 (dk_at dksX4_undo_3 13 rfl rfl)
theorem dX4_undo_86 : decode cX4_undo 86 = .ok (.aload_n 0, 1) := dk_42 (dk_at dksX4_undo_3 14 rfl rfl)
theorem dX4_undo_87 : decode cX4_undo 87 = .ok (.getfield 27, 3) := dk_180 0 27 (dk_at dksX4_undo_3 15 rfl rfl)
theorem dX4_undo_90 : decode cX4_undo 90 = .ok (.getfield 88, 3) := dk_180 0 88 (dk_at dksX4_undo_3 18 rfl rfl)
theorem dX4_undo_93 : decode cX4_undo 93 = .ok (.iload_n 3, 1) := dk_29 (dk_at dksX4_undo_3 21 rfl rfl)
theorem dX4_undo_94 : decode cX4_undo 94 = .ok (.iaload, 1) := dk_46 (dk_at dksX4_undo_3 22 rfl rfl)
theorem dX4_undo_95 : decode cX4_undo 95 = .ok (.if_icmp .eq 7, 3) := dk_159 0 7 (dk_at dksX4_undo_4 0 rfl rfl)
theorem dX4_undo_98 : decode cX4_undo 98 = .ok (.iconst 1, 1) := dk_4 (dk_at dksX4_undo_4 3 rfl rfl)
theorem dX4_undo_99 : decode cX4_undo 99 = .ok (.goto 4, 3) := dk_167 0 4 (dk_at dksX4_undo_4 4 rfl rfl)
theorem dX4_undo_102 : decode cX4_undo 102 = .ok (.iconst 0, 1) := dk_3 (dk_at dksX4_undo_4 7 rfl rfl)
theorem dX4_undo_103 : decode cX4_undo 103 = .ok (.iadd, 1) := dk_96 (dk_at dksX4_undo_4 8 rfl rfl)
theorem dX4_undo_104 : decode cX4_undo 104 = .ok (.istore_n 2, 1) := dk_61 (dk_at dksX4_undo_4 9 rfl rfl)
theorem dX4_undo_105 : decode cX4_undo 105 = .ok (.iinc 3 1, 3) := dk_132 3 1 (dk_at dksX4_undo_4 10 rfl rfl)
theorem dX4_undo_108 : decode cX4_undo 108 = .ok (.goto (-58), 3) := dk_167 255 198 (dk_at dksX4_undo_4 13 rfl rfl)
theorem dX4_undo_111 : decode cX4_undo 111 = .ok (.aload_n 0, 1) := dk_42 (dk_at dksX4_undo_4 16 rfl rfl)
theorem dX4_undo_112 : decode cX4_undo 112 = .ok (.getfield 27, 3) := dk_180 0 27 (dk_at dksX4_undo_4 17 rfl rfl)
theorem dX4_undo_115 : decode cX4_undo 115 = .ok (.aload_n 1, 1) := dk_43 (dk_at dksX4_undo_4 20 rfl rfl)
theorem dX4_undo_116 : decode cX4_undo 116 = .ok (.invokevirtual 195, 3) := dk_182 0 195 (dk_at dksX4_undo_4 21 rfl rfl)
theorem dX4_undo_119 : decode cX4_undo 119 = .ok (.iload_n 2, 1) := dk_28 (dk_at dksX4_undo_5 0 rfl rfl)
theorem dX4_undo_120 : decode cX4_undo 120 = .ok (.ireturn, 1) := dk_172 (dk_at dksX4_undo_5 1 rfl rfl)
abbrev cX4_step : ByteArray := prog_40_method_103_code
def yX4_step : MethodName := ⟨RX4, "step", "(II)I"⟩
def dkwX4_step_1 : List UInt8 := [182, 1, 122, 172, 42, 42, 180, 0, 27, 182, 1, 144, 42, 27, 28, 182, 1, 191, 172]
abbrev dktX4_step_1 : List UInt8 := dkwX4_step_1 ++ []
def dkwX4_step_0 : List UInt8 := [42, 3, 181, 0, 50, 42, 27, 182, 1, 188, 153, 0, 12, 28, 3, 7, 184, 0, 69, 154, 0, 9, 42, 4]
abbrev dktX4_step_0 : List UInt8 := dkwX4_step_0 ++ dktX4_step_1
theorem dksX4_step_0 : cX4_step.data.toList.drop 0 = dktX4_step_0 := by decide +kernel
theorem dksX4_step_1 : cX4_step.data.toList.drop 24 = dktX4_step_1 := dk_seg dksX4_step_0 24 rfl rfl
theorem dX4_step_0 : decode cX4_step 0 = .ok (.aload_n 0, 1) := dk_42 (dk_at dksX4_step_0 0 rfl rfl)
theorem dX4_step_1 : decode cX4_step 1 = .ok (.iconst 0, 1) := dk_3 (dk_at dksX4_step_0 1 rfl rfl)
theorem dX4_step_2 : decode cX4_step 2 = .ok (.putfield 50, 3) := dk_181 0 50 (dk_at dksX4_step_0 2 rfl rfl)
theorem dX4_step_5 : decode cX4_step 5 = .ok (.aload_n 0, 1) := dk_42 (dk_at dksX4_step_0 5 rfl rfl)
theorem dX4_step_6 : decode cX4_step 6 = .ok (.iload_n 1, 1) := dk_27 (dk_at dksX4_step_0 6 rfl rfl)
theorem dX4_step_7 : decode cX4_step 7 = .ok (.invokevirtual 444, 3) := dk_182 1 188 (dk_at dksX4_step_0 7 rfl rfl)
theorem dX4_step_10 : decode cX4_step 10 = .ok (.ifCond .eq 12, 3) := dk_153 0 12 (dk_at dksX4_step_0 10 rfl rfl)
theorem dX4_step_13 : decode cX4_step 13 = .ok (.iload_n 2, 1) := dk_28 (dk_at dksX4_step_0 13 rfl rfl)
theorem dX4_step_14 : decode cX4_step 14 = .ok (.iconst 0, 1) := dk_3 (dk_at dksX4_step_0 14 rfl rfl)
theorem dX4_step_15 : decode cX4_step 15 = .ok (.iconst 4, 1) := dk_7 (dk_at dksX4_step_0 15 rfl rfl)
theorem dX4_step_16 : decode cX4_step 16 = .ok (.invokestatic 69, 3) := dk_184 0 69 (dk_at dksX4_step_0 16 rfl rfl)
theorem dX4_step_19 : decode cX4_step 19 = .ok (.ifCond .ne 9, 3) := dk_154 0 9 (dk_at dksX4_step_0 19 rfl rfl)
theorem dX4_step_22 : decode cX4_step 22 = .ok (.aload_n 0, 1) := dk_42 (dk_at dksX4_step_0 22 rfl rfl)
theorem dX4_step_23 : decode cX4_step 23 = .ok (.iconst 1, 1) := dk_4 (dk_at dksX4_step_0 23 rfl rfl)
theorem dX4_step_24 : decode cX4_step 24 = .ok (.invokevirtual 378, 3) := dk_182 1 122 (dk_at dksX4_step_1 0 rfl rfl)
theorem dX4_step_27 : decode cX4_step 27 = .ok (.ireturn, 1) := dk_172 (dk_at dksX4_step_1 3 rfl rfl)
theorem dX4_step_28 : decode cX4_step 28 = .ok (.aload_n 0, 1) := dk_42 (dk_at dksX4_step_1 4 rfl rfl)
theorem dX4_step_29 : decode cX4_step 29 = .ok (.aload_n 0, 1) := dk_42 (dk_at dksX4_step_1 5 rfl rfl)
theorem dX4_step_30 : decode cX4_step 30 = .ok (.getfield 27, 3) := dk_180 0 27 (dk_at dksX4_step_1 6 rfl rfl)
theorem dX4_step_33 : decode cX4_step 33 = .ok (.invokevirtual 400, 3) := dk_182 1 144 (dk_at dksX4_step_1 9 rfl rfl)
theorem dX4_step_36 : decode cX4_step 36 = .ok (.aload_n 0, 1) := dk_42 (dk_at dksX4_step_1 12 rfl rfl)
theorem dX4_step_37 : decode cX4_step 37 = .ok (.iload_n 1, 1) := dk_27 (dk_at dksX4_step_1 13 rfl rfl)
theorem dX4_step_38 : decode cX4_step 38 = .ok (.iload_n 2, 1) := dk_28 (dk_at dksX4_step_1 14 rfl rfl)
theorem dX4_step_39 : decode cX4_step 39 = .ok (.invokevirtual 447, 3) := dk_182 1 191 (dk_at dksX4_step_1 15 rfl rfl)
theorem dX4_step_42 : decode cX4_step 42 = .ok (.ireturn, 1) := dk_172 (dk_at dksX4_step_1 18 rfl rfl)
abbrev cX4_stepTold : ByteArray := prog_40_method_102_code
def yX4_stepTold : MethodName := ⟨RX4, "stepTold", "(II)I"⟩
def dkwX4_stepTold_5 : List UInt8 := [172, 42, 180, 0, 34, 27, 46, 172]
abbrev dktX4_stepTold_5 : List UInt8 := dkwX4_stepTold_5 ++ []
def dkwX4_stepTold_4 : List UInt8 := [180, 0, 20, 180, 0, 134, 29, 6, 96, 46, 172, 42, 27, 182, 0, 179, 153, 0, 7, 4, 167, 0, 4, 3]
abbrev dktX4_stepTold_4 : List UInt8 := dkwX4_stepTold_4 ++ dktX4_stepTold_5
def dkwX4_stepTold_3 : List UInt8 := [180, 0, 20, 180, 0, 134, 29, 4, 96, 46, 172, 21, 4, 7, 160, 0, 7, 2, 167, 0, 14, 42]
abbrev dktX4_stepTold_3 : List UInt8 := dkwX4_stepTold_3 ++ dktX4_stepTold_4
def dkwX4_stepTold_2 : List UInt8 := [21, 4, 7, 160, 0, 7, 3, 167, 0, 15, 21, 4, 16, 6, 160, 0, 7, 4, 167, 0, 4, 5, 172, 42]
abbrev dktX4_stepTold_2 : List UInt8 := dkwX4_stepTold_2 ++ dktX4_stepTold_3
def dkwX4_stepTold_1 : List UInt8 := [170, 0, 0, 0, 0, 101, 0, 0, 0, 0, 0, 0, 0, 3, 0, 0, 0, 30, 0, 0, 0, 53, 0, 0, 0, 65, 0, 0, 0, 87]
abbrev dktX4_stepTold_1 : List UInt8 := dkwX4_stepTold_1 ++ dktX4_stepTold_2
def dkwX4_stepTold_0 : List UInt8 := [42, 180, 0, 20, 180, 0, 173, 27, 46, 62, 42, 180, 0, 20, 180, 0, 128, 29, 46, 54, 4, 28]
abbrev dktX4_stepTold_0 : List UInt8 := dkwX4_stepTold_0 ++ dktX4_stepTold_1
theorem dksX4_stepTold_0 : cX4_stepTold.data.toList.drop 0 = dktX4_stepTold_0 := by decide +kernel
theorem dksX4_stepTold_1 : cX4_stepTold.data.toList.drop 22 = dktX4_stepTold_1 := dk_seg dksX4_stepTold_0 22 rfl rfl
theorem dksX4_stepTold_2 : cX4_stepTold.data.toList.drop 52 = dktX4_stepTold_2 := dk_seg dksX4_stepTold_1 30 rfl rfl
theorem dksX4_stepTold_3 : cX4_stepTold.data.toList.drop 76 = dktX4_stepTold_3 := dk_seg dksX4_stepTold_2 24 rfl rfl
theorem dksX4_stepTold_4 : cX4_stepTold.data.toList.drop 98 = dktX4_stepTold_4 := dk_seg dksX4_stepTold_3 22 rfl rfl
theorem dksX4_stepTold_5 : cX4_stepTold.data.toList.drop 122 = dktX4_stepTold_5 := dk_seg dksX4_stepTold_4 24 rfl rfl
theorem dX4_stepTold_0 : decode cX4_stepTold 0 = .ok (.aload_n 0, 1) := dk_42 (dk_at dksX4_stepTold_0 0 rfl rfl)
theorem dX4_stepTold_1 : decode cX4_stepTold 1 = .ok (.getfield 20, 3) := dk_180 0 20 (dk_at dksX4_stepTold_0 1 rfl rfl)
theorem dX4_stepTold_4 : decode cX4_stepTold 4 = .ok (.getfield 173, 3) := dk_180 0 173 (dk_at dksX4_stepTold_0 4 rfl rfl)
theorem dX4_stepTold_7 : decode cX4_stepTold 7 = .ok (.iload_n 1, 1) := dk_27 (dk_at dksX4_stepTold_0 7 rfl rfl)
theorem dX4_stepTold_8 : decode cX4_stepTold 8 = .ok (.iaload, 1) := dk_46 (dk_at dksX4_stepTold_0 8 rfl rfl)
theorem dX4_stepTold_9 : decode cX4_stepTold 9 = .ok (.istore_n 3, 1) := dk_62 (dk_at dksX4_stepTold_0 9 rfl rfl)
theorem dX4_stepTold_10 : decode cX4_stepTold 10 = .ok (.aload_n 0, 1) := dk_42 (dk_at dksX4_stepTold_0 10 rfl rfl)
theorem dX4_stepTold_11 : decode cX4_stepTold 11 = .ok (.getfield 20, 3) := dk_180 0 20 (dk_at dksX4_stepTold_0 11 rfl rfl)
theorem dX4_stepTold_14 : decode cX4_stepTold 14 = .ok (.getfield 128, 3) := dk_180 0 128 (dk_at dksX4_stepTold_0 14 rfl rfl)
theorem dX4_stepTold_17 : decode cX4_stepTold 17 = .ok (.iload_n 3, 1) := dk_29 (dk_at dksX4_stepTold_0 17 rfl rfl)
theorem dX4_stepTold_18 : decode cX4_stepTold 18 = .ok (.iaload, 1) := dk_46 (dk_at dksX4_stepTold_0 18 rfl rfl)
theorem dX4_stepTold_19 : decode cX4_stepTold 19 = .ok (.istore 4, 2) := dk_54 4 (dk_at dksX4_stepTold_0 19 rfl rfl)
theorem dX4_stepTold_21 : decode cX4_stepTold 21 = .ok (.iload_n 2, 1) := dk_28 (dk_at dksX4_stepTold_0 21 rfl rfl)
theorem dX4_stepTold_22 : decode cX4_stepTold 22 = .ok (.tableswitch 101 0 3 #[30, 53, 65, 87], 30) := by decide +kernel
theorem dX4_stepTold_52 : decode cX4_stepTold 52 = .ok (.iload 4, 2) := dk_21 4 (dk_at dksX4_stepTold_2 0 rfl rfl)
theorem dX4_stepTold_54 : decode cX4_stepTold 54 = .ok (.iconst 4, 1) := dk_7 (dk_at dksX4_stepTold_2 2 rfl rfl)
theorem dX4_stepTold_55 : decode cX4_stepTold 55 = .ok (.if_icmp .ne 7, 3) := dk_160 0 7 (dk_at dksX4_stepTold_2 3 rfl rfl)
theorem dX4_stepTold_58 : decode cX4_stepTold 58 = .ok (.iconst 0, 1) := dk_3 (dk_at dksX4_stepTold_2 6 rfl rfl)
theorem dX4_stepTold_59 : decode cX4_stepTold 59 = .ok (.goto 15, 3) := dk_167 0 15 (dk_at dksX4_stepTold_2 7 rfl rfl)
theorem dX4_stepTold_62 : decode cX4_stepTold 62 = .ok (.iload 4, 2) := dk_21 4 (dk_at dksX4_stepTold_2 10 rfl rfl)
theorem dX4_stepTold_64 : decode cX4_stepTold 64 = .ok (.bipush 6, 2) := dk_16 6 (dk_at dksX4_stepTold_2 12 rfl rfl)
theorem dX4_stepTold_66 : decode cX4_stepTold 66 = .ok (.if_icmp .ne 7, 3) := dk_160 0 7 (dk_at dksX4_stepTold_2 14 rfl rfl)
theorem dX4_stepTold_69 : decode cX4_stepTold 69 = .ok (.iconst 1, 1) := dk_4 (dk_at dksX4_stepTold_2 17 rfl rfl)
theorem dX4_stepTold_70 : decode cX4_stepTold 70 = .ok (.goto 4, 3) := dk_167 0 4 (dk_at dksX4_stepTold_2 18 rfl rfl)
theorem dX4_stepTold_73 : decode cX4_stepTold 73 = .ok (.iconst 2, 1) := dk_5 (dk_at dksX4_stepTold_2 21 rfl rfl)
theorem dX4_stepTold_74 : decode cX4_stepTold 74 = .ok (.ireturn, 1) := dk_172 (dk_at dksX4_stepTold_2 22 rfl rfl)
theorem dX4_stepTold_75 : decode cX4_stepTold 75 = .ok (.aload_n 0, 1) := dk_42 (dk_at dksX4_stepTold_2 23 rfl rfl)
theorem dX4_stepTold_76 : decode cX4_stepTold 76 = .ok (.getfield 20, 3) := dk_180 0 20 (dk_at dksX4_stepTold_3 0 rfl rfl)
theorem dX4_stepTold_79 : decode cX4_stepTold 79 = .ok (.getfield 134, 3) := dk_180 0 134 (dk_at dksX4_stepTold_3 3 rfl rfl)
theorem dX4_stepTold_82 : decode cX4_stepTold 82 = .ok (.iload_n 3, 1) := dk_29 (dk_at dksX4_stepTold_3 6 rfl rfl)
theorem dX4_stepTold_83 : decode cX4_stepTold 83 = .ok (.iconst 1, 1) := dk_4 (dk_at dksX4_stepTold_3 7 rfl rfl)
theorem dX4_stepTold_84 : decode cX4_stepTold 84 = .ok (.iadd, 1) := dk_96 (dk_at dksX4_stepTold_3 8 rfl rfl)
theorem dX4_stepTold_85 : decode cX4_stepTold 85 = .ok (.iaload, 1) := dk_46 (dk_at dksX4_stepTold_3 9 rfl rfl)
theorem dX4_stepTold_86 : decode cX4_stepTold 86 = .ok (.ireturn, 1) := dk_172 (dk_at dksX4_stepTold_3 10 rfl rfl)
theorem dX4_stepTold_87 : decode cX4_stepTold 87 = .ok (.iload 4, 2) := dk_21 4 (dk_at dksX4_stepTold_3 11 rfl rfl)
theorem dX4_stepTold_89 : decode cX4_stepTold 89 = .ok (.iconst 4, 1) := dk_7 (dk_at dksX4_stepTold_3 13 rfl rfl)
theorem dX4_stepTold_90 : decode cX4_stepTold 90 = .ok (.if_icmp .ne 7, 3) := dk_160 0 7 (dk_at dksX4_stepTold_3 14 rfl rfl)
theorem dX4_stepTold_93 : decode cX4_stepTold 93 = .ok (.iconst (-1), 1) := dk_2 (dk_at dksX4_stepTold_3 17 rfl rfl)
theorem dX4_stepTold_94 : decode cX4_stepTold 94 = .ok (.goto 14, 3) := dk_167 0 14 (dk_at dksX4_stepTold_3 18 rfl rfl)
theorem dX4_stepTold_97 : decode cX4_stepTold 97 = .ok (.aload_n 0, 1) := dk_42 (dk_at dksX4_stepTold_3 21 rfl rfl)
theorem dX4_stepTold_98 : decode cX4_stepTold 98 = .ok (.getfield 20, 3) := dk_180 0 20 (dk_at dksX4_stepTold_4 0 rfl rfl)
theorem dX4_stepTold_101 : decode cX4_stepTold 101 = .ok (.getfield 134, 3) := dk_180 0 134 (dk_at dksX4_stepTold_4 3 rfl rfl)
theorem dX4_stepTold_104 : decode cX4_stepTold 104 = .ok (.iload_n 3, 1) := dk_29 (dk_at dksX4_stepTold_4 6 rfl rfl)
theorem dX4_stepTold_105 : decode cX4_stepTold 105 = .ok (.iconst 3, 1) := dk_6 (dk_at dksX4_stepTold_4 7 rfl rfl)
theorem dX4_stepTold_106 : decode cX4_stepTold 106 = .ok (.iadd, 1) := dk_96 (dk_at dksX4_stepTold_4 8 rfl rfl)
theorem dX4_stepTold_107 : decode cX4_stepTold 107 = .ok (.iaload, 1) := dk_46 (dk_at dksX4_stepTold_4 9 rfl rfl)
theorem dX4_stepTold_108 : decode cX4_stepTold 108 = .ok (.ireturn, 1) := dk_172 (dk_at dksX4_stepTold_4 10 rfl rfl)
theorem dX4_stepTold_109 : decode cX4_stepTold 109 = .ok (.aload_n 0, 1) := dk_42 (dk_at dksX4_stepTold_4 11 rfl rfl)
theorem dX4_stepTold_110 : decode cX4_stepTold 110 = .ok (.iload_n 1, 1) := dk_27 (dk_at dksX4_stepTold_4 12 rfl rfl)
theorem dX4_stepTold_111 : decode cX4_stepTold 111 = .ok (.invokevirtual 179, 3) := dk_182 0 179 (dk_at dksX4_stepTold_4 13 rfl rfl)
theorem dX4_stepTold_114 : decode cX4_stepTold 114 = .ok (.ifCond .eq 7, 3) := dk_153 0 7 (dk_at dksX4_stepTold_4 16 rfl rfl)
theorem dX4_stepTold_117 : decode cX4_stepTold 117 = .ok (.iconst 1, 1) := dk_4 (dk_at dksX4_stepTold_4 19 rfl rfl)
theorem dX4_stepTold_118 : decode cX4_stepTold 118 = .ok (.goto 4, 3) := dk_167 0 4 (dk_at dksX4_stepTold_4 20 rfl rfl)
theorem dX4_stepTold_121 : decode cX4_stepTold 121 = .ok (.iconst 0, 1) := dk_3 (dk_at dksX4_stepTold_4 23 rfl rfl)
theorem dX4_stepTold_122 : decode cX4_stepTold 122 = .ok (.ireturn, 1) := dk_172 (dk_at dksX4_stepTold_5 0 rfl rfl)
theorem dX4_stepTold_123 : decode cX4_stepTold 123 = .ok (.aload_n 0, 1) := dk_42 (dk_at dksX4_stepTold_5 1 rfl rfl)
theorem dX4_stepTold_124 : decode cX4_stepTold 124 = .ok (.getfield 34, 3) := dk_180 0 34 (dk_at dksX4_stepTold_5 2 rfl rfl)
theorem dX4_stepTold_127 : decode cX4_stepTold 127 = .ok (.iload_n 1, 1) := dk_27 (dk_at dksX4_stepTold_5 5 rfl rfl)
theorem dX4_stepTold_128 : decode cX4_stepTold 128 = .ok (.iaload, 1) := dk_46 (dk_at dksX4_stepTold_5 6 rfl rfl)
theorem dX4_stepTold_129 : decode cX4_stepTold 129 = .ok (.ireturn, 1) := dk_172 (dk_at dksX4_stepTold_5 7 rfl rfl)
abbrev cX4_would : ByteArray := prog_40_method_104_code
def yX4_would : MethodName := ⟨RX4, "would", "(I)I"⟩
def dkwX4_would_2 : List UInt8 := [182, 1, 194, 61, 27, 154, 0, 7, 28, 167, 0, 8, 42, 27, 182, 1, 147, 172]
abbrev dktX4_would_2 : List UInt8 := dkwX4_would_2 ++ []
def dkwX4_would_1 : List UInt8 := [172, 42, 180, 0, 31, 42, 180, 0, 27, 182, 0, 195, 42, 42, 180, 0, 31, 182, 1, 144, 42, 2]
abbrev dktX4_would_1 : List UInt8 := dkwX4_would_1 ++ dktX4_would_2
def dkwX4_would_0 : List UInt8 := [42, 3, 181, 0, 50, 27, 8, 16, 7, 184, 0, 69, 154, 0, 13, 27, 153, 0, 9, 42, 4, 182, 1, 122]
abbrev dktX4_would_0 : List UInt8 := dkwX4_would_0 ++ dktX4_would_1
theorem dksX4_would_0 : cX4_would.data.toList.drop 0 = dktX4_would_0 := by decide +kernel
theorem dksX4_would_1 : cX4_would.data.toList.drop 24 = dktX4_would_1 := dk_seg dksX4_would_0 24 rfl rfl
theorem dksX4_would_2 : cX4_would.data.toList.drop 46 = dktX4_would_2 := dk_seg dksX4_would_1 22 rfl rfl
theorem dX4_would_0 : decode cX4_would 0 = .ok (.aload_n 0, 1) := dk_42 (dk_at dksX4_would_0 0 rfl rfl)
theorem dX4_would_1 : decode cX4_would 1 = .ok (.iconst 0, 1) := dk_3 (dk_at dksX4_would_0 1 rfl rfl)
theorem dX4_would_2 : decode cX4_would 2 = .ok (.putfield 50, 3) := dk_181 0 50 (dk_at dksX4_would_0 2 rfl rfl)
theorem dX4_would_5 : decode cX4_would 5 = .ok (.iload_n 1, 1) := dk_27 (dk_at dksX4_would_0 5 rfl rfl)
theorem dX4_would_6 : decode cX4_would 6 = .ok (.iconst 5, 1) := dk_8 (dk_at dksX4_would_0 6 rfl rfl)
theorem dX4_would_7 : decode cX4_would 7 = .ok (.bipush 7, 2) := dk_16 7 (dk_at dksX4_would_0 7 rfl rfl)
theorem dX4_would_9 : decode cX4_would 9 = .ok (.invokestatic 69, 3) := dk_184 0 69 (dk_at dksX4_would_0 9 rfl rfl)
theorem dX4_would_12 : decode cX4_would 12 = .ok (.ifCond .ne 13, 3) := dk_154 0 13 (dk_at dksX4_would_0 12 rfl rfl)
theorem dX4_would_15 : decode cX4_would 15 = .ok (.iload_n 1, 1) := dk_27 (dk_at dksX4_would_0 15 rfl rfl)
theorem dX4_would_16 : decode cX4_would 16 = .ok (.ifCond .eq 9, 3) := dk_153 0 9 (dk_at dksX4_would_0 16 rfl rfl)
theorem dX4_would_19 : decode cX4_would 19 = .ok (.aload_n 0, 1) := dk_42 (dk_at dksX4_would_0 19 rfl rfl)
theorem dX4_would_20 : decode cX4_would 20 = .ok (.iconst 1, 1) := dk_4 (dk_at dksX4_would_0 20 rfl rfl)
theorem dX4_would_21 : decode cX4_would 21 = .ok (.invokevirtual 378, 3) := dk_182 1 122 (dk_at dksX4_would_0 21 rfl rfl)
theorem dX4_would_24 : decode cX4_would 24 = .ok (.ireturn, 1) := dk_172 (dk_at dksX4_would_1 0 rfl rfl)
theorem dX4_would_25 : decode cX4_would 25 = .ok (.aload_n 0, 1) := dk_42 (dk_at dksX4_would_1 1 rfl rfl)
theorem dX4_would_26 : decode cX4_would 26 = .ok (.getfield 31, 3) := dk_180 0 31 (dk_at dksX4_would_1 2 rfl rfl)
theorem dX4_would_29 : decode cX4_would 29 = .ok (.aload_n 0, 1) := dk_42 (dk_at dksX4_would_1 5 rfl rfl)
theorem dX4_would_30 : decode cX4_would 30 = .ok (.getfield 27, 3) := dk_180 0 27 (dk_at dksX4_would_1 6 rfl rfl)
theorem dX4_would_33 : decode cX4_would 33 = .ok (.invokevirtual 195, 3) := dk_182 0 195 (dk_at dksX4_would_1 9 rfl rfl)
theorem dX4_would_36 : decode cX4_would 36 = .ok (.aload_n 0, 1) := dk_42 (dk_at dksX4_would_1 12 rfl rfl)
theorem dX4_would_37 : decode cX4_would 37 = .ok (.aload_n 0, 1) := dk_42 (dk_at dksX4_would_1 13 rfl rfl)
theorem dX4_would_38 : decode cX4_would 38 = .ok (.getfield 31, 3) := dk_180 0 31 (dk_at dksX4_would_1 14 rfl rfl)
theorem dX4_would_41 : decode cX4_would 41 = .ok (.invokevirtual 400, 3) := dk_182 1 144 (dk_at dksX4_would_1 17 rfl rfl)
theorem dX4_would_44 : decode cX4_would 44 = .ok (.aload_n 0, 1) := dk_42 (dk_at dksX4_would_1 20 rfl rfl)
theorem dX4_would_45 : decode cX4_would 45 = .ok (.iconst (-1), 1) := dk_2 (dk_at dksX4_would_1 21 rfl rfl)
theorem dX4_would_46 : decode cX4_would 46 = .ok (.invokevirtual 450, 3) := dk_182 1 194 (dk_at dksX4_would_2 0 rfl rfl)
theorem dX4_would_49 : decode cX4_would 49 = .ok (.istore_n 2, 1) := dk_61 (dk_at dksX4_would_2 3 rfl rfl)
theorem dX4_would_50 : decode cX4_would 50 = .ok (.iload_n 1, 1) := dk_27 (dk_at dksX4_would_2 4 rfl rfl)
theorem dX4_would_51 : decode cX4_would 51 = .ok (.ifCond .ne 7, 3) := dk_154 0 7 (dk_at dksX4_would_2 5 rfl rfl)
theorem dX4_would_54 : decode cX4_would 54 = .ok (.iload_n 2, 1) := dk_28 (dk_at dksX4_would_2 8 rfl rfl)
theorem dX4_would_55 : decode cX4_would 55 = .ok (.goto 8, 3) := dk_167 0 8 (dk_at dksX4_would_2 9 rfl rfl)
theorem dX4_would_58 : decode cX4_would 58 = .ok (.aload_n 0, 1) := dk_42 (dk_at dksX4_would_2 12 rfl rfl)
theorem dX4_would_59 : decode cX4_would 59 = .ok (.iload_n 1, 1) := dk_27 (dk_at dksX4_would_2 13 rfl rfl)
theorem dX4_would_60 : decode cX4_would 60 = .ok (.invokevirtual 403, 3) := dk_182 1 147 (dk_at dksX4_would_2 14 rfl rfl)
theorem dX4_would_63 : decode cX4_would 63 = .ok (.ireturn, 1) := dk_172 (dk_at dksX4_would_2 17 rfl rfl)
abbrev cX4_goAll : ByteArray := prog_40_method_32_code
def yX4_goAll : MethodName := ⟨RX4, "goAll", "(I)I"⟩
def dkwX4_goAll_1 : List UInt8 := [182, 0, 186, 153, 0, 7, 4, 167, 0, 4, 3, 96, 61, 132, 3, 1, 167, 255, 221, 28, 172]
abbrev dktX4_goAll_1 : List UInt8 := dkwX4_goAll_1 ++ []
def dkwX4_goAll_0 : List UInt8 := [3, 61, 3, 62, 29, 42, 180, 0, 20, 180, 0, 76, 162, 0, 30, 28, 29, 27, 159, 0, 15, 42, 29]
abbrev dktX4_goAll_0 : List UInt8 := dkwX4_goAll_0 ++ dktX4_goAll_1
theorem dksX4_goAll_0 : cX4_goAll.data.toList.drop 0 = dktX4_goAll_0 := by decide +kernel
theorem dksX4_goAll_1 : cX4_goAll.data.toList.drop 23 = dktX4_goAll_1 := dk_seg dksX4_goAll_0 23 rfl rfl
theorem dX4_goAll_0 : decode cX4_goAll 0 = .ok (.iconst 0, 1) := dk_3 (dk_at dksX4_goAll_0 0 rfl rfl)
theorem dX4_goAll_1 : decode cX4_goAll 1 = .ok (.istore_n 2, 1) := dk_61 (dk_at dksX4_goAll_0 1 rfl rfl)
theorem dX4_goAll_2 : decode cX4_goAll 2 = .ok (.iconst 0, 1) := dk_3 (dk_at dksX4_goAll_0 2 rfl rfl)
theorem dX4_goAll_3 : decode cX4_goAll 3 = .ok (.istore_n 3, 1) := dk_62 (dk_at dksX4_goAll_0 3 rfl rfl)
theorem dX4_goAll_4 : decode cX4_goAll 4 = .ok (.iload_n 3, 1) := dk_29 (dk_at dksX4_goAll_0 4 rfl rfl)
theorem dX4_goAll_5 : decode cX4_goAll 5 = .ok (.aload_n 0, 1) := dk_42 (dk_at dksX4_goAll_0 5 rfl rfl)
theorem dX4_goAll_6 : decode cX4_goAll 6 = .ok (.getfield 20, 3) := dk_180 0 20 (dk_at dksX4_goAll_0 6 rfl rfl)
theorem dX4_goAll_9 : decode cX4_goAll 9 = .ok (.getfield 76, 3) := dk_180 0 76 (dk_at dksX4_goAll_0 9 rfl rfl)
theorem dX4_goAll_12 : decode cX4_goAll 12 = .ok (.if_icmp .ge 30, 3) := dk_162 0 30 (dk_at dksX4_goAll_0 12 rfl rfl)
theorem dX4_goAll_15 : decode cX4_goAll 15 = .ok (.iload_n 2, 1) := dk_28 (dk_at dksX4_goAll_0 15 rfl rfl)
theorem dX4_goAll_16 : decode cX4_goAll 16 = .ok (.iload_n 3, 1) := dk_29 (dk_at dksX4_goAll_0 16 rfl rfl)
theorem dX4_goAll_17 : decode cX4_goAll 17 = .ok (.iload_n 1, 1) := dk_27 (dk_at dksX4_goAll_0 17 rfl rfl)
theorem dX4_goAll_18 : decode cX4_goAll 18 = .ok (.if_icmp .eq 15, 3) := dk_159 0 15 (dk_at dksX4_goAll_0 18 rfl rfl)
theorem dX4_goAll_21 : decode cX4_goAll 21 = .ok (.aload_n 0, 1) := dk_42 (dk_at dksX4_goAll_0 21 rfl rfl)
theorem dX4_goAll_22 : decode cX4_goAll 22 = .ok (.iload_n 3, 1) := dk_29 (dk_at dksX4_goAll_0 22 rfl rfl)
theorem dX4_goAll_23 : decode cX4_goAll 23 = .ok (.invokevirtual 186, 3) := dk_182 0 186 (dk_at dksX4_goAll_1 0 rfl rfl)
theorem dX4_goAll_26 : decode cX4_goAll 26 = .ok (.ifCond .eq 7, 3) := dk_153 0 7 (dk_at dksX4_goAll_1 3 rfl rfl)
theorem dX4_goAll_29 : decode cX4_goAll 29 = .ok (.iconst 1, 1) := dk_4 (dk_at dksX4_goAll_1 6 rfl rfl)
theorem dX4_goAll_30 : decode cX4_goAll 30 = .ok (.goto 4, 3) := dk_167 0 4 (dk_at dksX4_goAll_1 7 rfl rfl)
theorem dX4_goAll_33 : decode cX4_goAll 33 = .ok (.iconst 0, 1) := dk_3 (dk_at dksX4_goAll_1 10 rfl rfl)
theorem dX4_goAll_34 : decode cX4_goAll 34 = .ok (.iadd, 1) := dk_96 (dk_at dksX4_goAll_1 11 rfl rfl)
theorem dX4_goAll_35 : decode cX4_goAll 35 = .ok (.istore_n 2, 1) := dk_61 (dk_at dksX4_goAll_1 12 rfl rfl)
theorem dX4_goAll_36 : decode cX4_goAll 36 = .ok (.iinc 3 1, 3) := dk_132 3 1 (dk_at dksX4_goAll_1 13 rfl rfl)
theorem dX4_goAll_39 : decode cX4_goAll 39 = .ok (.goto (-35), 3) := dk_167 255 221 (dk_at dksX4_goAll_1 16 rfl rfl)
theorem dX4_goAll_42 : decode cX4_goAll 42 = .ok (.iload_n 2, 1) := dk_28 (dk_at dksX4_goAll_1 19 rfl rfl)
theorem dX4_goAll_43 : decode cX4_goAll 43 = .ok (.ireturn, 1) := dk_172 (dk_at dksX4_goAll_1 20 rfl rfl)
abbrev cX4_without : ByteArray := prog_40_method_105_code
def yX4_without : MethodName := ⟨RX4, "without", "(I)I"⟩
def dkwX4_without_2 : List UInt8 := [172]
abbrev dktX4_without_2 : List UInt8 := dkwX4_without_2 ++ []
def dkwX4_without_1 : List UInt8 := [180, 0, 27, 182, 0, 195, 42, 42, 180, 0, 31, 182, 1, 144, 42, 27, 182, 1, 194, 87, 42, 182, 1, 135]
abbrev dktX4_without_1 : List UInt8 := dkwX4_without_1 ++ dktX4_without_2
def dkwX4_without_0 : List UInt8 := [42, 3, 181, 0, 50, 42, 27, 182, 1, 188, 154, 0, 9, 42, 4, 182, 1, 122, 172, 42, 180, 0, 31, 42]
abbrev dktX4_without_0 : List UInt8 := dkwX4_without_0 ++ dktX4_without_1
theorem dksX4_without_0 : cX4_without.data.toList.drop 0 = dktX4_without_0 := by decide +kernel
theorem dksX4_without_1 : cX4_without.data.toList.drop 24 = dktX4_without_1 := dk_seg dksX4_without_0 24 rfl rfl
theorem dksX4_without_2 : cX4_without.data.toList.drop 48 = dktX4_without_2 := dk_seg dksX4_without_1 24 rfl rfl
theorem dX4_without_0 : decode cX4_without 0 = .ok (.aload_n 0, 1) := dk_42 (dk_at dksX4_without_0 0 rfl rfl)
theorem dX4_without_1 : decode cX4_without 1 = .ok (.iconst 0, 1) := dk_3 (dk_at dksX4_without_0 1 rfl rfl)
theorem dX4_without_2 : decode cX4_without 2 = .ok (.putfield 50, 3) := dk_181 0 50 (dk_at dksX4_without_0 2 rfl rfl)
theorem dX4_without_5 : decode cX4_without 5 = .ok (.aload_n 0, 1) := dk_42 (dk_at dksX4_without_0 5 rfl rfl)
theorem dX4_without_6 : decode cX4_without 6 = .ok (.iload_n 1, 1) := dk_27 (dk_at dksX4_without_0 6 rfl rfl)
theorem dX4_without_7 : decode cX4_without 7 = .ok (.invokevirtual 444, 3) := dk_182 1 188 (dk_at dksX4_without_0 7 rfl rfl)
theorem dX4_without_10 : decode cX4_without 10 = .ok (.ifCond .ne 9, 3) := dk_154 0 9 (dk_at dksX4_without_0 10 rfl rfl)
theorem dX4_without_13 : decode cX4_without 13 = .ok (.aload_n 0, 1) := dk_42 (dk_at dksX4_without_0 13 rfl rfl)
theorem dX4_without_14 : decode cX4_without 14 = .ok (.iconst 1, 1) := dk_4 (dk_at dksX4_without_0 14 rfl rfl)
theorem dX4_without_15 : decode cX4_without 15 = .ok (.invokevirtual 378, 3) := dk_182 1 122 (dk_at dksX4_without_0 15 rfl rfl)
theorem dX4_without_18 : decode cX4_without 18 = .ok (.ireturn, 1) := dk_172 (dk_at dksX4_without_0 18 rfl rfl)
theorem dX4_without_19 : decode cX4_without 19 = .ok (.aload_n 0, 1) := dk_42 (dk_at dksX4_without_0 19 rfl rfl)
theorem dX4_without_20 : decode cX4_without 20 = .ok (.getfield 31, 3) := dk_180 0 31 (dk_at dksX4_without_0 20 rfl rfl)
theorem dX4_without_23 : decode cX4_without 23 = .ok (.aload_n 0, 1) := dk_42 (dk_at dksX4_without_0 23 rfl rfl)
theorem dX4_without_24 : decode cX4_without 24 = .ok (.getfield 27, 3) := dk_180 0 27 (dk_at dksX4_without_1 0 rfl rfl)
theorem dX4_without_27 : decode cX4_without 27 = .ok (.invokevirtual 195, 3) := dk_182 0 195 (dk_at dksX4_without_1 3 rfl rfl)
theorem dX4_without_30 : decode cX4_without 30 = .ok (.aload_n 0, 1) := dk_42 (dk_at dksX4_without_1 6 rfl rfl)
theorem dX4_without_31 : decode cX4_without 31 = .ok (.aload_n 0, 1) := dk_42 (dk_at dksX4_without_1 7 rfl rfl)
theorem dX4_without_32 : decode cX4_without 32 = .ok (.getfield 31, 3) := dk_180 0 31 (dk_at dksX4_without_1 8 rfl rfl)
theorem dX4_without_35 : decode cX4_without 35 = .ok (.invokevirtual 400, 3) := dk_182 1 144 (dk_at dksX4_without_1 11 rfl rfl)
theorem dX4_without_38 : decode cX4_without 38 = .ok (.aload_n 0, 1) := dk_42 (dk_at dksX4_without_1 14 rfl rfl)
theorem dX4_without_39 : decode cX4_without 39 = .ok (.iload_n 1, 1) := dk_27 (dk_at dksX4_without_1 15 rfl rfl)
theorem dX4_without_40 : decode cX4_without 40 = .ok (.invokevirtual 450, 3) := dk_182 1 194 (dk_at dksX4_without_1 16 rfl rfl)
theorem dX4_without_43 : decode cX4_without 43 = .ok (.pop, 1) := dk_87 (dk_at dksX4_without_1 19 rfl rfl)
theorem dX4_without_44 : decode cX4_without 44 = .ok (.aload_n 0, 1) := dk_42 (dk_at dksX4_without_1 20 rfl rfl)
theorem dX4_without_45 : decode cX4_without 45 = .ok (.invokevirtual 391, 3) := dk_182 1 135 (dk_at dksX4_without_1 21 rfl rfl)
theorem dX4_without_48 : decode cX4_without 48 = .ok (.ireturn, 1) := dk_172 (dk_at dksX4_without_2 0 rfl rfl)
abbrev cX4_mean : ByteArray := prog_40_method_106_code
def yX4_mean : MethodName := ⟨RX4, "mean", "()D"⟩
def dkwX4_mean_1 : List UInt8 := [167, 0, 17, 42, 182, 1, 135, 135, 42, 180, 0, 20, 180, 0, 73, 135, 111, 175]
abbrev dktX4_mean_1 : List UInt8 := dkwX4_mean_1 ++ []
def dkwX4_mean_0 : List UInt8 := [42, 3, 181, 0, 50, 42, 42, 180, 0, 27, 182, 1, 144, 42, 180, 0, 20, 180, 0, 73, 154, 0, 7, 14]
abbrev dktX4_mean_0 : List UInt8 := dkwX4_mean_0 ++ dktX4_mean_1
theorem dksX4_mean_0 : cX4_mean.data.toList.drop 0 = dktX4_mean_0 := by decide +kernel
theorem dksX4_mean_1 : cX4_mean.data.toList.drop 24 = dktX4_mean_1 := dk_seg dksX4_mean_0 24 rfl rfl
theorem dX4_mean_0 : decode cX4_mean 0 = .ok (.aload_n 0, 1) := dk_42 (dk_at dksX4_mean_0 0 rfl rfl)
theorem dX4_mean_1 : decode cX4_mean 1 = .ok (.iconst 0, 1) := dk_3 (dk_at dksX4_mean_0 1 rfl rfl)
theorem dX4_mean_2 : decode cX4_mean 2 = .ok (.putfield 50, 3) := dk_181 0 50 (dk_at dksX4_mean_0 2 rfl rfl)
theorem dX4_mean_5 : decode cX4_mean 5 = .ok (.aload_n 0, 1) := dk_42 (dk_at dksX4_mean_0 5 rfl rfl)
theorem dX4_mean_6 : decode cX4_mean 6 = .ok (.aload_n 0, 1) := dk_42 (dk_at dksX4_mean_0 6 rfl rfl)
theorem dX4_mean_7 : decode cX4_mean 7 = .ok (.getfield 27, 3) := dk_180 0 27 (dk_at dksX4_mean_0 7 rfl rfl)
theorem dX4_mean_10 : decode cX4_mean 10 = .ok (.invokevirtual 400, 3) := dk_182 1 144 (dk_at dksX4_mean_0 10 rfl rfl)
theorem dX4_mean_13 : decode cX4_mean 13 = .ok (.aload_n 0, 1) := dk_42 (dk_at dksX4_mean_0 13 rfl rfl)
theorem dX4_mean_14 : decode cX4_mean 14 = .ok (.getfield 20, 3) := dk_180 0 20 (dk_at dksX4_mean_0 14 rfl rfl)
theorem dX4_mean_17 : decode cX4_mean 17 = .ok (.getfield 73, 3) := dk_180 0 73 (dk_at dksX4_mean_0 17 rfl rfl)
theorem dX4_mean_20 : decode cX4_mean 20 = .ok (.ifCond .ne 7, 3) := dk_154 0 7 (dk_at dksX4_mean_0 20 rfl rfl)
theorem dX4_mean_23 : decode cX4_mean 23 = .ok (.dconst 0, 1) := dk_14 (dk_at dksX4_mean_0 23 rfl rfl)
theorem dX4_mean_24 : decode cX4_mean 24 = .ok (.goto 17, 3) := dk_167 0 17 (dk_at dksX4_mean_1 0 rfl rfl)
theorem dX4_mean_27 : decode cX4_mean 27 = .ok (.aload_n 0, 1) := dk_42 (dk_at dksX4_mean_1 3 rfl rfl)
theorem dX4_mean_28 : decode cX4_mean 28 = .ok (.invokevirtual 391, 3) := dk_182 1 135 (dk_at dksX4_mean_1 4 rfl rfl)
theorem dX4_mean_31 : decode cX4_mean 31 = .ok (.i2d, 1) := dk_135 (dk_at dksX4_mean_1 7 rfl rfl)
theorem dX4_mean_32 : decode cX4_mean 32 = .ok (.aload_n 0, 1) := dk_42 (dk_at dksX4_mean_1 8 rfl rfl)
theorem dX4_mean_33 : decode cX4_mean 33 = .ok (.getfield 20, 3) := dk_180 0 20 (dk_at dksX4_mean_1 9 rfl rfl)
theorem dX4_mean_36 : decode cX4_mean 36 = .ok (.getfield 73, 3) := dk_180 0 73 (dk_at dksX4_mean_1 12 rfl rfl)
theorem dX4_mean_39 : decode cX4_mean 39 = .ok (.i2d, 1) := dk_135 (dk_at dksX4_mean_1 15 rfl rfl)
theorem dX4_mean_40 : decode cX4_mean 40 = .ok (.ddiv, 1) := dk_111 (dk_at dksX4_mean_1 16 rfl rfl)
theorem dX4_mean_41 : decode cX4_mean 41 = .ok (.dreturn, 1) := dk_175 (dk_at dksX4_mean_1 17 rfl rfl)
abbrev cX4_digest : ByteArray := prog_40_method_107_code
def yX4_digest : MethodName := ⟨RX4, "digest", "()J"⟩
def dkwX4_digest_10 : List UInt8 := [29, 21, 4, 182, 1, 191, 133, 97, 64, 132, 4, 1, 167, 255, 232, 132, 3, 1, 167, 255, 212, 31, 173]
abbrev dktX4_digest_10 : List UInt8 := dkwX4_digest_10 ++ []
def dkwX4_digest_9 : List UInt8 := [180, 0, 20, 180, 0, 76, 162, 0, 39, 3, 54, 4, 21, 4, 8, 162, 0, 24, 31, 20, 1, 199, 105, 42]
abbrev dktX4_digest_9 : List UInt8 := dkwX4_digest_9 ++ dktX4_digest_10
def dkwX4_digest_8 : List UInt8 := [21, 4, 46, 133, 97, 64, 132, 4, 1, 167, 255, 229, 132, 3, 1, 167, 255, 148, 3, 62, 29, 42]
abbrev dktX4_digest_8 : List UInt8 := dkwX4_digest_8 ++ dktX4_digest_9
def dkwX4_digest_7 : List UInt8 := [167, 255, 232, 3, 54, 4, 21, 4, 42, 180, 0, 202, 162, 0, 24, 31, 20, 1, 199, 105, 42, 180, 0, 47]
abbrev dktX4_digest_7 : List UInt8 := dkwX4_digest_7 ++ dktX4_digest_8
def dkwX4_digest_6 : List UInt8 := [21, 4, 6, 162, 0, 24, 31, 20, 1, 199, 105, 42, 29, 21, 4, 182, 1, 179, 133, 97, 64, 132, 4, 1]
abbrev dktX4_digest_6 : List UInt8 := dkwX4_digest_6 ++ dktX4_digest_7
def dkwX4_digest_5 : List UInt8 := [20, 1, 199, 105, 42, 29, 21, 4, 182, 1, 176, 133, 97, 64, 132, 4, 1, 167, 255, 231, 3, 54, 4]
abbrev dktX4_digest_5 : List UInt8 := dkwX4_digest_5 ++ dktX4_digest_6
def dkwX4_digest_4 : List UInt8 := [62, 29, 42, 180, 0, 20, 180, 0, 73, 162, 0, 103, 3, 54, 4, 21, 4, 16, 6, 162, 0, 24, 31]
abbrev dktX4_digest_4 : List UInt8 := dkwX4_digest_4 ++ dktX4_digest_5
def dkwX4_digest_3 : List UInt8 := [105, 42, 29, 21, 4, 182, 1, 156, 133, 97, 64, 132, 4, 1, 167, 255, 232, 132, 3, 1, 167, 255, 212, 3]
abbrev dktX4_digest_3 : List UInt8 := dkwX4_digest_3 ++ dktX4_digest_4
def dkwX4_digest_2 : List UInt8 := [29, 42, 180, 0, 20, 180, 0, 66, 162, 0, 39, 3, 54, 4, 21, 4, 7, 162, 0, 24, 31, 20, 1, 199]
abbrev dktX4_digest_2 : List UInt8 := dkwX4_digest_2 ++ dktX4_digest_3
def dkwX4_digest_1 : List UInt8 := [162, 0, 22, 31, 20, 1, 199, 105, 42, 29, 182, 1, 147, 133, 97, 64, 132, 3, 1, 167, 255, 234, 3, 62]
abbrev dktX4_digest_1 : List UInt8 := dkwX4_digest_1 ++ dktX4_digest_2
def dkwX4_digest_0 : List UInt8 := [42, 3, 181, 0, 50, 42, 42, 180, 0, 27, 182, 1, 144, 20, 1, 197, 64, 3, 62, 29, 16, 9]
abbrev dktX4_digest_0 : List UInt8 := dkwX4_digest_0 ++ dktX4_digest_1
theorem dksX4_digest_0 : cX4_digest.data.toList.drop 0 = dktX4_digest_0 := by decide +kernel
theorem dksX4_digest_1 : cX4_digest.data.toList.drop 22 = dktX4_digest_1 := dk_seg dksX4_digest_0 22 rfl rfl
theorem dksX4_digest_2 : cX4_digest.data.toList.drop 46 = dktX4_digest_2 := dk_seg dksX4_digest_1 24 rfl rfl
theorem dksX4_digest_3 : cX4_digest.data.toList.drop 70 = dktX4_digest_3 := dk_seg dksX4_digest_2 24 rfl rfl
theorem dksX4_digest_4 : cX4_digest.data.toList.drop 94 = dktX4_digest_4 := dk_seg dksX4_digest_3 24 rfl rfl
theorem dksX4_digest_5 : cX4_digest.data.toList.drop 117 = dktX4_digest_5 := dk_seg dksX4_digest_4 23 rfl rfl
theorem dksX4_digest_6 : cX4_digest.data.toList.drop 140 = dktX4_digest_6 := dk_seg dksX4_digest_5 23 rfl rfl
theorem dksX4_digest_7 : cX4_digest.data.toList.drop 164 = dktX4_digest_7 := dk_seg dksX4_digest_6 24 rfl rfl
theorem dksX4_digest_8 : cX4_digest.data.toList.drop 188 = dktX4_digest_8 := dk_seg dksX4_digest_7 24 rfl rfl
theorem dksX4_digest_9 : cX4_digest.data.toList.drop 210 = dktX4_digest_9 := dk_seg dksX4_digest_8 22 rfl rfl
theorem dksX4_digest_10 : cX4_digest.data.toList.drop 234 = dktX4_digest_10 := dk_seg dksX4_digest_9 24 rfl rfl
theorem dX4_digest_0 : decode cX4_digest 0 = .ok (.aload_n 0, 1) := dk_42 (dk_at dksX4_digest_0 0 rfl rfl)
theorem dX4_digest_1 : decode cX4_digest 1 = .ok (.iconst 0, 1) := dk_3 (dk_at dksX4_digest_0 1 rfl rfl)
theorem dX4_digest_2 : decode cX4_digest 2 = .ok (.putfield 50, 3) := dk_181 0 50 (dk_at dksX4_digest_0 2 rfl rfl)
theorem dX4_digest_5 : decode cX4_digest 5 = .ok (.aload_n 0, 1) := dk_42 (dk_at dksX4_digest_0 5 rfl rfl)
theorem dX4_digest_6 : decode cX4_digest 6 = .ok (.aload_n 0, 1) := dk_42 (dk_at dksX4_digest_0 6 rfl rfl)
theorem dX4_digest_7 : decode cX4_digest 7 = .ok (.getfield 27, 3) := dk_180 0 27 (dk_at dksX4_digest_0 7 rfl rfl)
theorem dX4_digest_10 : decode cX4_digest 10 = .ok (.invokevirtual 400, 3) := dk_182 1 144 (dk_at dksX4_digest_0 10 rfl rfl)
theorem dX4_digest_13 : decode cX4_digest 13 = .ok (.ldc2_w 453, 3) := dk_20 1 197 (dk_at dksX4_digest_0 13 rfl rfl)
theorem dX4_digest_16 : decode cX4_digest 16 = .ok (.lstore_n 1, 1) := dk_64 (dk_at dksX4_digest_0 16 rfl rfl)
theorem dX4_digest_17 : decode cX4_digest 17 = .ok (.iconst 0, 1) := dk_3 (dk_at dksX4_digest_0 17 rfl rfl)
theorem dX4_digest_18 : decode cX4_digest 18 = .ok (.istore_n 3, 1) := dk_62 (dk_at dksX4_digest_0 18 rfl rfl)
theorem dX4_digest_19 : decode cX4_digest 19 = .ok (.iload_n 3, 1) := dk_29 (dk_at dksX4_digest_0 19 rfl rfl)
theorem dX4_digest_20 : decode cX4_digest 20 = .ok (.bipush 9, 2) := dk_16 9 (dk_at dksX4_digest_0 20 rfl rfl)
theorem dX4_digest_22 : decode cX4_digest 22 = .ok (.if_icmp .ge 22, 3) := dk_162 0 22 (dk_at dksX4_digest_1 0 rfl rfl)
theorem dX4_digest_25 : decode cX4_digest 25 = .ok (.lload_n 1, 1) := dk_31 (dk_at dksX4_digest_1 3 rfl rfl)
theorem dX4_digest_26 : decode cX4_digest 26 = .ok (.ldc2_w 455, 3) := dk_20 1 199 (dk_at dksX4_digest_1 4 rfl rfl)
theorem dX4_digest_29 : decode cX4_digest 29 = .ok (.lmul, 1) := dk_105 (dk_at dksX4_digest_1 7 rfl rfl)
theorem dX4_digest_30 : decode cX4_digest 30 = .ok (.aload_n 0, 1) := dk_42 (dk_at dksX4_digest_1 8 rfl rfl)
theorem dX4_digest_31 : decode cX4_digest 31 = .ok (.iload_n 3, 1) := dk_29 (dk_at dksX4_digest_1 9 rfl rfl)
theorem dX4_digest_32 : decode cX4_digest 32 = .ok (.invokevirtual 403, 3) := dk_182 1 147 (dk_at dksX4_digest_1 10 rfl rfl)
theorem dX4_digest_35 : decode cX4_digest 35 = .ok (.i2l, 1) := dk_133 (dk_at dksX4_digest_1 13 rfl rfl)
theorem dX4_digest_36 : decode cX4_digest 36 = .ok (.ladd, 1) := dk_97 (dk_at dksX4_digest_1 14 rfl rfl)
theorem dX4_digest_37 : decode cX4_digest 37 = .ok (.lstore_n 1, 1) := dk_64 (dk_at dksX4_digest_1 15 rfl rfl)
theorem dX4_digest_38 : decode cX4_digest 38 = .ok (.iinc 3 1, 3) := dk_132 3 1 (dk_at dksX4_digest_1 16 rfl rfl)
theorem dX4_digest_41 : decode cX4_digest 41 = .ok (.goto (-22), 3) := dk_167 255 234 (dk_at dksX4_digest_1 19 rfl rfl)
theorem dX4_digest_44 : decode cX4_digest 44 = .ok (.iconst 0, 1) := dk_3 (dk_at dksX4_digest_1 22 rfl rfl)
theorem dX4_digest_45 : decode cX4_digest 45 = .ok (.istore_n 3, 1) := dk_62 (dk_at dksX4_digest_1 23 rfl rfl)
theorem dX4_digest_46 : decode cX4_digest 46 = .ok (.iload_n 3, 1) := dk_29 (dk_at dksX4_digest_2 0 rfl rfl)
theorem dX4_digest_47 : decode cX4_digest 47 = .ok (.aload_n 0, 1) := dk_42 (dk_at dksX4_digest_2 1 rfl rfl)
theorem dX4_digest_48 : decode cX4_digest 48 = .ok (.getfield 20, 3) := dk_180 0 20 (dk_at dksX4_digest_2 2 rfl rfl)
theorem dX4_digest_51 : decode cX4_digest 51 = .ok (.getfield 66, 3) := dk_180 0 66 (dk_at dksX4_digest_2 5 rfl rfl)
theorem dX4_digest_54 : decode cX4_digest 54 = .ok (.if_icmp .ge 39, 3) := dk_162 0 39 (dk_at dksX4_digest_2 8 rfl rfl)
theorem dX4_digest_57 : decode cX4_digest 57 = .ok (.iconst 0, 1) := dk_3 (dk_at dksX4_digest_2 11 rfl rfl)
theorem dX4_digest_58 : decode cX4_digest 58 = .ok (.istore 4, 2) := dk_54 4 (dk_at dksX4_digest_2 12 rfl rfl)
theorem dX4_digest_60 : decode cX4_digest 60 = .ok (.iload 4, 2) := dk_21 4 (dk_at dksX4_digest_2 14 rfl rfl)
theorem dX4_digest_62 : decode cX4_digest 62 = .ok (.iconst 4, 1) := dk_7 (dk_at dksX4_digest_2 16 rfl rfl)
theorem dX4_digest_63 : decode cX4_digest 63 = .ok (.if_icmp .ge 24, 3) := dk_162 0 24 (dk_at dksX4_digest_2 17 rfl rfl)
theorem dX4_digest_66 : decode cX4_digest 66 = .ok (.lload_n 1, 1) := dk_31 (dk_at dksX4_digest_2 20 rfl rfl)
theorem dX4_digest_67 : decode cX4_digest 67 = .ok (.ldc2_w 455, 3) := dk_20 1 199 (dk_at dksX4_digest_2 21 rfl rfl)
theorem dX4_digest_70 : decode cX4_digest 70 = .ok (.lmul, 1) := dk_105 (dk_at dksX4_digest_3 0 rfl rfl)
theorem dX4_digest_71 : decode cX4_digest 71 = .ok (.aload_n 0, 1) := dk_42 (dk_at dksX4_digest_3 1 rfl rfl)
theorem dX4_digest_72 : decode cX4_digest 72 = .ok (.iload_n 3, 1) := dk_29 (dk_at dksX4_digest_3 2 rfl rfl)
theorem dX4_digest_73 : decode cX4_digest 73 = .ok (.iload 4, 2) := dk_21 4 (dk_at dksX4_digest_3 3 rfl rfl)
theorem dX4_digest_75 : decode cX4_digest 75 = .ok (.invokevirtual 412, 3) := dk_182 1 156 (dk_at dksX4_digest_3 5 rfl rfl)
theorem dX4_digest_78 : decode cX4_digest 78 = .ok (.i2l, 1) := dk_133 (dk_at dksX4_digest_3 8 rfl rfl)
theorem dX4_digest_79 : decode cX4_digest 79 = .ok (.ladd, 1) := dk_97 (dk_at dksX4_digest_3 9 rfl rfl)
theorem dX4_digest_80 : decode cX4_digest 80 = .ok (.lstore_n 1, 1) := dk_64 (dk_at dksX4_digest_3 10 rfl rfl)
theorem dX4_digest_81 : decode cX4_digest 81 = .ok (.iinc 4 1, 3) := dk_132 4 1 (dk_at dksX4_digest_3 11 rfl rfl)
theorem dX4_digest_84 : decode cX4_digest 84 = .ok (.goto (-24), 3) := dk_167 255 232 (dk_at dksX4_digest_3 14 rfl rfl)
theorem dX4_digest_87 : decode cX4_digest 87 = .ok (.iinc 3 1, 3) := dk_132 3 1 (dk_at dksX4_digest_3 17 rfl rfl)
theorem dX4_digest_90 : decode cX4_digest 90 = .ok (.goto (-44), 3) := dk_167 255 212 (dk_at dksX4_digest_3 20 rfl rfl)
theorem dX4_digest_93 : decode cX4_digest 93 = .ok (.iconst 0, 1) := dk_3 (dk_at dksX4_digest_3 23 rfl rfl)
theorem dX4_digest_94 : decode cX4_digest 94 = .ok (.istore_n 3, 1) := dk_62 (dk_at dksX4_digest_4 0 rfl rfl)
theorem dX4_digest_95 : decode cX4_digest 95 = .ok (.iload_n 3, 1) := dk_29 (dk_at dksX4_digest_4 1 rfl rfl)
theorem dX4_digest_96 : decode cX4_digest 96 = .ok (.aload_n 0, 1) := dk_42 (dk_at dksX4_digest_4 2 rfl rfl)
theorem dX4_digest_97 : decode cX4_digest 97 = .ok (.getfield 20, 3) := dk_180 0 20 (dk_at dksX4_digest_4 3 rfl rfl)
theorem dX4_digest_100 : decode cX4_digest 100 = .ok (.getfield 73, 3) := dk_180 0 73 (dk_at dksX4_digest_4 6 rfl rfl)
theorem dX4_digest_103 : decode cX4_digest 103 = .ok (.if_icmp .ge 103, 3) := dk_162 0 103 (dk_at dksX4_digest_4 9 rfl rfl)
theorem dX4_digest_106 : decode cX4_digest 106 = .ok (.iconst 0, 1) := dk_3 (dk_at dksX4_digest_4 12 rfl rfl)
theorem dX4_digest_107 : decode cX4_digest 107 = .ok (.istore 4, 2) := dk_54 4 (dk_at dksX4_digest_4 13 rfl rfl)
theorem dX4_digest_109 : decode cX4_digest 109 = .ok (.iload 4, 2) := dk_21 4 (dk_at dksX4_digest_4 15 rfl rfl)
theorem dX4_digest_111 : decode cX4_digest 111 = .ok (.bipush 6, 2) := dk_16 6 (dk_at dksX4_digest_4 17 rfl rfl)
theorem dX4_digest_113 : decode cX4_digest 113 = .ok (.if_icmp .ge 24, 3) := dk_162 0 24 (dk_at dksX4_digest_4 19 rfl rfl)
theorem dX4_digest_116 : decode cX4_digest 116 = .ok (.lload_n 1, 1) := dk_31 (dk_at dksX4_digest_4 22 rfl rfl)
theorem dX4_digest_117 : decode cX4_digest 117 = .ok (.ldc2_w 455, 3) := dk_20 1 199 (dk_at dksX4_digest_5 0 rfl rfl)
theorem dX4_digest_120 : decode cX4_digest 120 = .ok (.lmul, 1) := dk_105 (dk_at dksX4_digest_5 3 rfl rfl)
theorem dX4_digest_121 : decode cX4_digest 121 = .ok (.aload_n 0, 1) := dk_42 (dk_at dksX4_digest_5 4 rfl rfl)
theorem dX4_digest_122 : decode cX4_digest 122 = .ok (.iload_n 3, 1) := dk_29 (dk_at dksX4_digest_5 5 rfl rfl)
theorem dX4_digest_123 : decode cX4_digest 123 = .ok (.iload 4, 2) := dk_21 4 (dk_at dksX4_digest_5 6 rfl rfl)
theorem dX4_digest_125 : decode cX4_digest 125 = .ok (.invokevirtual 432, 3) := dk_182 1 176 (dk_at dksX4_digest_5 8 rfl rfl)
theorem dX4_digest_128 : decode cX4_digest 128 = .ok (.i2l, 1) := dk_133 (dk_at dksX4_digest_5 11 rfl rfl)
theorem dX4_digest_129 : decode cX4_digest 129 = .ok (.ladd, 1) := dk_97 (dk_at dksX4_digest_5 12 rfl rfl)
theorem dX4_digest_130 : decode cX4_digest 130 = .ok (.lstore_n 1, 1) := dk_64 (dk_at dksX4_digest_5 13 rfl rfl)
theorem dX4_digest_131 : decode cX4_digest 131 = .ok (.iinc 4 1, 3) := dk_132 4 1 (dk_at dksX4_digest_5 14 rfl rfl)
theorem dX4_digest_134 : decode cX4_digest 134 = .ok (.goto (-25), 3) := dk_167 255 231 (dk_at dksX4_digest_5 17 rfl rfl)
theorem dX4_digest_137 : decode cX4_digest 137 = .ok (.iconst 0, 1) := dk_3 (dk_at dksX4_digest_5 20 rfl rfl)
theorem dX4_digest_138 : decode cX4_digest 138 = .ok (.istore 4, 2) := dk_54 4 (dk_at dksX4_digest_5 21 rfl rfl)
theorem dX4_digest_140 : decode cX4_digest 140 = .ok (.iload 4, 2) := dk_21 4 (dk_at dksX4_digest_6 0 rfl rfl)
theorem dX4_digest_142 : decode cX4_digest 142 = .ok (.iconst 3, 1) := dk_6 (dk_at dksX4_digest_6 2 rfl rfl)
theorem dX4_digest_143 : decode cX4_digest 143 = .ok (.if_icmp .ge 24, 3) := dk_162 0 24 (dk_at dksX4_digest_6 3 rfl rfl)
theorem dX4_digest_146 : decode cX4_digest 146 = .ok (.lload_n 1, 1) := dk_31 (dk_at dksX4_digest_6 6 rfl rfl)
theorem dX4_digest_147 : decode cX4_digest 147 = .ok (.ldc2_w 455, 3) := dk_20 1 199 (dk_at dksX4_digest_6 7 rfl rfl)
theorem dX4_digest_150 : decode cX4_digest 150 = .ok (.lmul, 1) := dk_105 (dk_at dksX4_digest_6 10 rfl rfl)
theorem dX4_digest_151 : decode cX4_digest 151 = .ok (.aload_n 0, 1) := dk_42 (dk_at dksX4_digest_6 11 rfl rfl)
theorem dX4_digest_152 : decode cX4_digest 152 = .ok (.iload_n 3, 1) := dk_29 (dk_at dksX4_digest_6 12 rfl rfl)
theorem dX4_digest_153 : decode cX4_digest 153 = .ok (.iload 4, 2) := dk_21 4 (dk_at dksX4_digest_6 13 rfl rfl)
theorem dX4_digest_155 : decode cX4_digest 155 = .ok (.invokevirtual 435, 3) := dk_182 1 179 (dk_at dksX4_digest_6 15 rfl rfl)
theorem dX4_digest_158 : decode cX4_digest 158 = .ok (.i2l, 1) := dk_133 (dk_at dksX4_digest_6 18 rfl rfl)
theorem dX4_digest_159 : decode cX4_digest 159 = .ok (.ladd, 1) := dk_97 (dk_at dksX4_digest_6 19 rfl rfl)
theorem dX4_digest_160 : decode cX4_digest 160 = .ok (.lstore_n 1, 1) := dk_64 (dk_at dksX4_digest_6 20 rfl rfl)
theorem dX4_digest_161 : decode cX4_digest 161 = .ok (.iinc 4 1, 3) := dk_132 4 1 (dk_at dksX4_digest_6 21 rfl rfl)
theorem dX4_digest_164 : decode cX4_digest 164 = .ok (.goto (-24), 3) := dk_167 255 232 (dk_at dksX4_digest_7 0 rfl rfl)
theorem dX4_digest_167 : decode cX4_digest 167 = .ok (.iconst 0, 1) := dk_3 (dk_at dksX4_digest_7 3 rfl rfl)
theorem dX4_digest_168 : decode cX4_digest 168 = .ok (.istore 4, 2) := dk_54 4 (dk_at dksX4_digest_7 4 rfl rfl)
theorem dX4_digest_170 : decode cX4_digest 170 = .ok (.iload 4, 2) := dk_21 4 (dk_at dksX4_digest_7 6 rfl rfl)
theorem dX4_digest_172 : decode cX4_digest 172 = .ok (.aload_n 0, 1) := dk_42 (dk_at dksX4_digest_7 8 rfl rfl)
theorem dX4_digest_173 : decode cX4_digest 173 = .ok (.getfield 202, 3) := dk_180 0 202 (dk_at dksX4_digest_7 9 rfl rfl)
theorem dX4_digest_176 : decode cX4_digest 176 = .ok (.if_icmp .ge 24, 3) := dk_162 0 24 (dk_at dksX4_digest_7 12 rfl rfl)
theorem dX4_digest_179 : decode cX4_digest 179 = .ok (.lload_n 1, 1) := dk_31 (dk_at dksX4_digest_7 15 rfl rfl)
theorem dX4_digest_180 : decode cX4_digest 180 = .ok (.ldc2_w 455, 3) := dk_20 1 199 (dk_at dksX4_digest_7 16 rfl rfl)
theorem dX4_digest_183 : decode cX4_digest 183 = .ok (.lmul, 1) := dk_105 (dk_at dksX4_digest_7 19 rfl rfl)
theorem dX4_digest_184 : decode cX4_digest 184 = .ok (.aload_n 0, 1) := dk_42 (dk_at dksX4_digest_7 20 rfl rfl)
theorem dX4_digest_185 : decode cX4_digest 185 = .ok (.getfield 47, 3) := dk_180 0 47 (dk_at dksX4_digest_7 21 rfl rfl)
theorem dX4_digest_188 : decode cX4_digest 188 = .ok (.iload 4, 2) := dk_21 4 (dk_at dksX4_digest_8 0 rfl rfl)
theorem dX4_digest_190 : decode cX4_digest 190 = .ok (.iaload, 1) := dk_46 (dk_at dksX4_digest_8 2 rfl rfl)
theorem dX4_digest_191 : decode cX4_digest 191 = .ok (.i2l, 1) := dk_133 (dk_at dksX4_digest_8 3 rfl rfl)
theorem dX4_digest_192 : decode cX4_digest 192 = .ok (.ladd, 1) := dk_97 (dk_at dksX4_digest_8 4 rfl rfl)
theorem dX4_digest_193 : decode cX4_digest 193 = .ok (.lstore_n 1, 1) := dk_64 (dk_at dksX4_digest_8 5 rfl rfl)
theorem dX4_digest_194 : decode cX4_digest 194 = .ok (.iinc 4 1, 3) := dk_132 4 1 (dk_at dksX4_digest_8 6 rfl rfl)
theorem dX4_digest_197 : decode cX4_digest 197 = .ok (.goto (-27), 3) := dk_167 255 229 (dk_at dksX4_digest_8 9 rfl rfl)
theorem dX4_digest_200 : decode cX4_digest 200 = .ok (.iinc 3 1, 3) := dk_132 3 1 (dk_at dksX4_digest_8 12 rfl rfl)
theorem dX4_digest_203 : decode cX4_digest 203 = .ok (.goto (-108), 3) := dk_167 255 148 (dk_at dksX4_digest_8 15 rfl rfl)
theorem dX4_digest_206 : decode cX4_digest 206 = .ok (.iconst 0, 1) := dk_3 (dk_at dksX4_digest_8 18 rfl rfl)
theorem dX4_digest_207 : decode cX4_digest 207 = .ok (.istore_n 3, 1) := dk_62 (dk_at dksX4_digest_8 19 rfl rfl)
theorem dX4_digest_208 : decode cX4_digest 208 = .ok (.iload_n 3, 1) := dk_29 (dk_at dksX4_digest_8 20 rfl rfl)
theorem dX4_digest_209 : decode cX4_digest 209 = .ok (.aload_n 0, 1) := dk_42 (dk_at dksX4_digest_8 21 rfl rfl)
theorem dX4_digest_210 : decode cX4_digest 210 = .ok (.getfield 20, 3) := dk_180 0 20 (dk_at dksX4_digest_9 0 rfl rfl)
theorem dX4_digest_213 : decode cX4_digest 213 = .ok (.getfield 76, 3) := dk_180 0 76 (dk_at dksX4_digest_9 3 rfl rfl)
theorem dX4_digest_216 : decode cX4_digest 216 = .ok (.if_icmp .ge 39, 3) := dk_162 0 39 (dk_at dksX4_digest_9 6 rfl rfl)
theorem dX4_digest_219 : decode cX4_digest 219 = .ok (.iconst 0, 1) := dk_3 (dk_at dksX4_digest_9 9 rfl rfl)
theorem dX4_digest_220 : decode cX4_digest 220 = .ok (.istore 4, 2) := dk_54 4 (dk_at dksX4_digest_9 10 rfl rfl)
theorem dX4_digest_222 : decode cX4_digest 222 = .ok (.iload 4, 2) := dk_21 4 (dk_at dksX4_digest_9 12 rfl rfl)
theorem dX4_digest_224 : decode cX4_digest 224 = .ok (.iconst 5, 1) := dk_8 (dk_at dksX4_digest_9 14 rfl rfl)
theorem dX4_digest_225 : decode cX4_digest 225 = .ok (.if_icmp .ge 24, 3) := dk_162 0 24 (dk_at dksX4_digest_9 15 rfl rfl)
theorem dX4_digest_228 : decode cX4_digest 228 = .ok (.lload_n 1, 1) := dk_31 (dk_at dksX4_digest_9 18 rfl rfl)
theorem dX4_digest_229 : decode cX4_digest 229 = .ok (.ldc2_w 455, 3) := dk_20 1 199 (dk_at dksX4_digest_9 19 rfl rfl)
theorem dX4_digest_232 : decode cX4_digest 232 = .ok (.lmul, 1) := dk_105 (dk_at dksX4_digest_9 22 rfl rfl)
theorem dX4_digest_233 : decode cX4_digest 233 = .ok (.aload_n 0, 1) := dk_42 (dk_at dksX4_digest_9 23 rfl rfl)
theorem dX4_digest_234 : decode cX4_digest 234 = .ok (.iload_n 3, 1) := dk_29 (dk_at dksX4_digest_10 0 rfl rfl)
theorem dX4_digest_235 : decode cX4_digest 235 = .ok (.iload 4, 2) := dk_21 4 (dk_at dksX4_digest_10 1 rfl rfl)
theorem dX4_digest_237 : decode cX4_digest 237 = .ok (.invokevirtual 447, 3) := dk_182 1 191 (dk_at dksX4_digest_10 3 rfl rfl)
theorem dX4_digest_240 : decode cX4_digest 240 = .ok (.i2l, 1) := dk_133 (dk_at dksX4_digest_10 6 rfl rfl)
theorem dX4_digest_241 : decode cX4_digest 241 = .ok (.ladd, 1) := dk_97 (dk_at dksX4_digest_10 7 rfl rfl)
theorem dX4_digest_242 : decode cX4_digest 242 = .ok (.lstore_n 1, 1) := dk_64 (dk_at dksX4_digest_10 8 rfl rfl)
theorem dX4_digest_243 : decode cX4_digest 243 = .ok (.iinc 4 1, 3) := dk_132 4 1 (dk_at dksX4_digest_10 9 rfl rfl)
theorem dX4_digest_246 : decode cX4_digest 246 = .ok (.goto (-24), 3) := dk_167 255 232 (dk_at dksX4_digest_10 12 rfl rfl)
theorem dX4_digest_249 : decode cX4_digest 249 = .ok (.iinc 3 1, 3) := dk_132 3 1 (dk_at dksX4_digest_10 15 rfl rfl)
theorem dX4_digest_252 : decode cX4_digest 252 = .ok (.goto (-44), 3) := dk_167 255 212 (dk_at dksX4_digest_10 18 rfl rfl)
theorem dX4_digest_255 : decode cX4_digest 255 = .ok (.lload_n 1, 1) := dk_31 (dk_at dksX4_digest_10 21 rfl rfl)
theorem dX4_digest_256 : decode cX4_digest 256 = .ok (.lreturn, 1) := dk_173 (dk_at dksX4_digest_10 22 rfl rfl)
theorem q118 : (Jvm.Cond.initialized "GridTableModel") ∈ lw_all := lw_g (lw_at lw_m1 7 rfl) rfl
theorem q836 : (Jvm.Cond.selects "GridTableModel" ({ cls := "java/lang/Object", name := "getClass", desc := "()Ljava/lang/Class;" } : Jvm.MethodName) ({ cls := "java/lang/Object", name := "getClass", desc := "()Ljava/lang/Class;" } : Jvm.MethodName)) ∈ lw_all := lw_g (lw_at lw_m4 5 rfl) rfl
theorem q1065 : (Jvm.Cond.selects "GridTableModel" ({ cls := "java/lang/Object", name := "hashCode", desc := "()I" } : Jvm.MethodName) ({ cls := "java/lang/Object", name := "hashCode", desc := "()I" } : Jvm.MethodName)) ∈ lw_all := lw_g (lw_at lw_m4 234 rfl) rfl
theorem q1177 : (Jvm.Cond.selects "GridTableModel" ({ cls := "java/lang/Object", name := "equals", desc := "(Ljava/lang/Object;)Z" } : Jvm.MethodName) ({ cls := "java/lang/Object", name := "equals", desc := "(Ljava/lang/Object;)Z" } : Jvm.MethodName)) ∈ lw_all := lw_g (lw_at lw_m5 106 rfl) rfl
theorem q2714 : (Jvm.Cond.instantiable "GridTableModel" (19 : Nat)) ∈ lw_all := lw_g (lw_at lw_m11 203 rfl) rfl
theorem q2716 : (Jvm.Cond.instanceMethod ({ cls := "GridTableModel", name := "<init>", desc := "()V" } : Jvm.MethodName)) ∈ lw_all := lw_g (lw_at lw_m11 205 rfl) rfl
theorem q2717 : (Jvm.Cond.code ({ cls := "GridTableModel", name := "<init>", desc := "()V" } : Jvm.MethodName) prog_40_method_1_code (2 : Nat) (Option.none : Option Jvm.ClassFile.FieldType)) ∈ lw_all := lw_g (lw_at lw_m11 206 rfl) rfl
theorem q2718 : (Jvm.Cond.methodLink "GridTableModel" (1 : Nat) ({ cls := "java/lang/Object", name := "<init>", desc := "()V" } : Jvm.MethodName)) ∈ lw_all := lw_g (lw_at lw_m11 207 rfl) rfl
theorem q2719 : (Jvm.Cond.classLink "GridTableModel" (17 : Nat) "GridTableModel$Sheet") ∈ lw_all := lw_g (lw_at lw_m11 208 rfl) rfl
theorem q2721 : (Jvm.Cond.methodLinkNest "GridTableModel" (19 : Nat) ({ cls := "GridTableModel$Sheet", name := "<init>", desc := "()V" } : Jvm.MethodName) "GridTableModel") ∈ lw_tbl := lw_at lw_m11 210 rfl
theorem q2728 : (Jvm.Cond.fieldLinkNest "GridTableModel" (128 : Nat) "GridTableModel$Sheet" "kind" "[I" "GridTableModel") ∈ lw_tbl := lw_at lw_m11 217 rfl
theorem q2730 : (Jvm.Cond.fieldLinkNest "GridTableModel" (260 : Nat) "GridTableModel$Sheet" "from" "[I" "GridTableModel") ∈ lw_tbl := lw_at lw_m11 219 rfl
theorem q2732 : (Jvm.Cond.fieldLinkNest "GridTableModel" (236 : Nat) "GridTableModel$Sheet" "many" "[I" "GridTableModel") ∈ lw_tbl := lw_at lw_m11 221 rfl
theorem q2734 : (Jvm.Cond.fieldLinkNest "GridTableModel" (134 : Nat) "GridTableModel$Sheet" "means" "[I" "GridTableModel") ∈ lw_tbl := lw_at lw_m11 223 rfl
theorem q2735 : (Jvm.Cond.fieldLinkNest "GridTableModel" (66 : Nat) "GridTableModel$Sheet" "points" "I" "GridTableModel") ∈ lw_tbl := lw_at lw_m11 224 rfl
theorem q2737 : (Jvm.Cond.fieldLinkNest "GridTableModel" (338 : Nat) "GridTableModel$Sheet" "pointName" "[Ljava/lang/String;" "GridTableModel") ∈ lw_tbl := lw_at lw_m11 226 rfl
theorem q2738 : (Jvm.Cond.fieldLinkNest "GridTableModel" (73 : Nat) "GridTableModel$Sheet" "shapes" "I" "GridTableModel") ∈ lw_tbl := lw_at lw_m11 227 rfl
theorem q2740 : (Jvm.Cond.fieldLinkNest "GridTableModel" (344 : Nat) "GridTableModel$Sheet" "shapeName" "[Ljava/lang/String;" "GridTableModel") ∈ lw_tbl := lw_at lw_m11 229 rfl
theorem q2742 : (Jvm.Cond.fieldLinkNest "GridTableModel" (82 : Nat) "GridTableModel$Sheet" "corners" "[I" "GridTableModel") ∈ lw_tbl := lw_at lw_m11 231 rfl
theorem q2744 : (Jvm.Cond.fieldLinkNest "GridTableModel" (79 : Nat) "GridTableModel$Sheet" "corner" "[I" "GridTableModel") ∈ lw_tbl := lw_at lw_m11 233 rfl
theorem q2745 : (Jvm.Cond.fieldLinkNest "GridTableModel" (76 : Nat) "GridTableModel$Sheet" "steps" "I" "GridTableModel") ∈ lw_tbl := lw_at lw_m11 234 rfl
theorem q2747 : (Jvm.Cond.fieldLinkNest "GridTableModel" (173 : Nat) "GridTableModel$Sheet" "step" "[I" "GridTableModel") ∈ lw_tbl := lw_at lw_m11 236 rfl
theorem q2748 : (Jvm.Cond.fieldLinkNest "GridTableModel" (350 : Nat) "GridTableModel$Sheet" "line" "I" "GridTableModel") ∈ lw_tbl := lw_at lw_m11 237 rfl
theorem q2776 : (Jvm.Cond.classLink "GridTableModel" (24 : Nat) "GridTableModel$Places") ∈ lw_all := lw_g (lw_at lw_m12 25 rfl) rfl
theorem q2778 : (Jvm.Cond.methodLinkNest "GridTableModel" (26 : Nat) ({ cls := "GridTableModel$Places", name := "<init>", desc := "()V" } : Jvm.MethodName) "GridTableModel") ∈ lw_tbl := lw_at lw_m12 27 rfl
theorem q2783 : (Jvm.Cond.fieldLinkNest "GridTableModel" (85 : Nat) "GridTableModel$Places" "x" "[I" "GridTableModel") ∈ lw_tbl := lw_at lw_m12 32 rfl
theorem q2785 : (Jvm.Cond.fieldLinkNest "GridTableModel" (88 : Nat) "GridTableModel$Places" "y" "[I" "GridTableModel") ∈ lw_tbl := lw_at lw_m12 34 rfl
theorem q2792 : (Jvm.Cond.fieldLink "GridTableModel" (50 : Nat) "GridTableModel" "thrown" "I") ∈ lw_all := lw_g (lw_at lw_m12 41 rfl) rfl
theorem q2793 : (Jvm.Cond.fieldLink "GridTableModel" (9 : Nat) "GridTableModel" "tape" "[I") ∈ lw_all := lw_g (lw_at lw_m12 42 rfl) rfl
theorem q2794 : (Jvm.Cond.fieldLink "GridTableModel" (224 : Nat) "GridTableModel" "size" "I") ∈ lw_all := lw_g (lw_at lw_m12 43 rfl) rfl
theorem q2795 : (Jvm.Cond.fieldLink "GridTableModel" (13 : Nat) "GridTableModel" "errorAt" "I") ∈ lw_all := lw_g (lw_at lw_m12 44 rfl) rfl
theorem q2796 : (Jvm.Cond.fieldLink "GridTableModel" (267 : Nat) "GridTableModel" "token" "I") ∈ lw_all := lw_g (lw_at lw_m12 45 rfl) rfl
theorem q2797 : (Jvm.Cond.fieldLink "GridTableModel" (270 : Nat) "GridTableModel" "depth" "I") ∈ lw_all := lw_g (lw_at lw_m12 46 rfl) rfl
theorem q2798 : (Jvm.Cond.fieldLink "GridTableModel" (20 : Nat) "GridTableModel" "sheet" "LGridTableModel$Sheet;") ∈ lw_all := lw_g (lw_at lw_m12 47 rfl) rfl
theorem q2799 : (Jvm.Cond.fieldLink "GridTableModel" (27 : Nat) "GridTableModel" "now" "LGridTableModel$Places;") ∈ lw_all := lw_g (lw_at lw_m12 48 rfl) rfl
theorem q2800 : (Jvm.Cond.fieldLink "GridTableModel" (31 : Nat) "GridTableModel" "ahead" "LGridTableModel$Places;") ∈ lw_all := lw_g (lw_at lw_m12 49 rfl) rfl
theorem q2801 : (Jvm.Cond.fieldLink "GridTableModel" (34 : Nat) "GridTableModel" "often" "[I") ∈ lw_all := lw_g (lw_at lw_m12 50 rfl) rfl
theorem q2802 : (Jvm.Cond.fieldLink "GridTableModel" (385 : Nat) "GridTableModel" "done" "I") ∈ lw_all := lw_g (lw_at lw_m12 51 rfl) rfl
theorem q2803 : (Jvm.Cond.fieldLink "GridTableModel" (37 : Nat) "GridTableModel" "kept" "[LGridTableModel$Places;") ∈ lw_all := lw_g (lw_at lw_m12 52 rfl) rfl
theorem q2804 : (Jvm.Cond.fieldLink "GridTableModel" (192 : Nat) "GridTableModel" "oldest" "I") ∈ lw_all := lw_g (lw_at lw_m12 53 rfl) rfl
theorem q2805 : (Jvm.Cond.fieldLink "GridTableModel" (189 : Nat) "GridTableModel" "keeps" "I") ∈ lw_all := lw_g (lw_at lw_m12 54 rfl) rfl
theorem q2806 : (Jvm.Cond.fieldLink "GridTableModel" (41 : Nat) "GridTableModel" "seen" "LGridTableModel$Sheet;") ∈ lw_all := lw_g (lw_at lw_m12 55 rfl) rfl
theorem q2807 : (Jvm.Cond.fieldLink "GridTableModel" (44 : Nat) "GridTableModel" "on" "LGridTableModel$Places;") ∈ lw_all := lw_g (lw_at lw_m12 56 rfl) rfl
theorem q2808 : (Jvm.Cond.fieldLink "GridTableModel" (131 : Nat) "GridTableModel" "walk" "I") ∈ lw_all := lw_g (lw_at lw_m12 57 rfl) rfl
theorem q2809 : (Jvm.Cond.fieldLink "GridTableModel" (47 : Nat) "GridTableModel" "hull" "[I") ∈ lw_all := lw_g (lw_at lw_m12 58 rfl) rfl
theorem q2810 : (Jvm.Cond.fieldLink "GridTableModel" (202 : Nat) "GridTableModel" "hulls" "I") ∈ lw_all := lw_g (lw_at lw_m12 59 rfl) rfl
theorem q2811 : (Jvm.Cond.lays "GridTableModel" "GridTableModel" "thrown" "I") ∈ lw_all := lw_g (lw_at lw_m12 60 rfl) rfl
theorem q2812 : (Jvm.Cond.soleField "GridTableModel" "thrown") ∈ lw_all := lw_g (lw_at lw_m12 61 rfl) rfl
theorem q2813 : (Jvm.Cond.laysFinal "GridTableModel" "GridTableModel" "tape" "[I") ∈ lw_all := lw_g (lw_at lw_m12 62 rfl) rfl
theorem q2814 : (Jvm.Cond.soleField "GridTableModel" "tape") ∈ lw_all := lw_g (lw_at lw_m12 63 rfl) rfl
theorem q2815 : (Jvm.Cond.lays "GridTableModel" "GridTableModel" "size" "I") ∈ lw_all := lw_g (lw_at lw_m12 64 rfl) rfl
theorem q2816 : (Jvm.Cond.soleField "GridTableModel" "size") ∈ lw_all := lw_g (lw_at lw_m12 65 rfl) rfl
theorem q2817 : (Jvm.Cond.lays "GridTableModel" "GridTableModel" "errorAt" "I") ∈ lw_all := lw_g (lw_at lw_m12 66 rfl) rfl
theorem q2818 : (Jvm.Cond.soleField "GridTableModel" "errorAt") ∈ lw_all := lw_g (lw_at lw_m12 67 rfl) rfl
theorem q2819 : (Jvm.Cond.lays "GridTableModel" "GridTableModel" "token" "I") ∈ lw_all := lw_g (lw_at lw_m12 68 rfl) rfl
theorem q2820 : (Jvm.Cond.soleField "GridTableModel" "token") ∈ lw_all := lw_g (lw_at lw_m12 69 rfl) rfl
theorem q2821 : (Jvm.Cond.lays "GridTableModel" "GridTableModel" "depth" "I") ∈ lw_all := lw_g (lw_at lw_m12 70 rfl) rfl
theorem q2822 : (Jvm.Cond.soleField "GridTableModel" "depth") ∈ lw_all := lw_g (lw_at lw_m12 71 rfl) rfl
theorem q2823 : (Jvm.Cond.lays "GridTableModel" "GridTableModel" "sheet" "LGridTableModel$Sheet;") ∈ lw_all := lw_g (lw_at lw_m12 72 rfl) rfl
theorem q2824 : (Jvm.Cond.soleField "GridTableModel" "sheet") ∈ lw_all := lw_g (lw_at lw_m12 73 rfl) rfl
theorem q2825 : (Jvm.Cond.lays "GridTableModel" "GridTableModel" "now" "LGridTableModel$Places;") ∈ lw_all := lw_g (lw_at lw_m12 74 rfl) rfl
theorem q2826 : (Jvm.Cond.soleField "GridTableModel" "now") ∈ lw_all := lw_g (lw_at lw_m12 75 rfl) rfl
theorem q2827 : (Jvm.Cond.laysFinal "GridTableModel" "GridTableModel" "ahead" "LGridTableModel$Places;") ∈ lw_all := lw_g (lw_at lw_m12 76 rfl) rfl
theorem q2828 : (Jvm.Cond.soleField "GridTableModel" "ahead") ∈ lw_all := lw_g (lw_at lw_m12 77 rfl) rfl
theorem q2829 : (Jvm.Cond.laysFinal "GridTableModel" "GridTableModel" "often" "[I") ∈ lw_all := lw_g (lw_at lw_m12 78 rfl) rfl
theorem q2830 : (Jvm.Cond.soleField "GridTableModel" "often") ∈ lw_all := lw_g (lw_at lw_m12 79 rfl) rfl
theorem q2831 : (Jvm.Cond.lays "GridTableModel" "GridTableModel" "done" "I") ∈ lw_all := lw_g (lw_at lw_m12 80 rfl) rfl
theorem q2832 : (Jvm.Cond.soleField "GridTableModel" "done") ∈ lw_all := lw_g (lw_at lw_m12 81 rfl) rfl
theorem q2833 : (Jvm.Cond.laysFinal "GridTableModel" "GridTableModel" "kept" "[LGridTableModel$Places;") ∈ lw_all := lw_g (lw_at lw_m12 82 rfl) rfl
theorem q2834 : (Jvm.Cond.soleField "GridTableModel" "kept") ∈ lw_all := lw_g (lw_at lw_m12 83 rfl) rfl
theorem q2835 : (Jvm.Cond.lays "GridTableModel" "GridTableModel" "oldest" "I") ∈ lw_all := lw_g (lw_at lw_m12 84 rfl) rfl
theorem q2836 : (Jvm.Cond.soleField "GridTableModel" "oldest") ∈ lw_all := lw_g (lw_at lw_m12 85 rfl) rfl
theorem q2837 : (Jvm.Cond.lays "GridTableModel" "GridTableModel" "keeps" "I") ∈ lw_all := lw_g (lw_at lw_m12 86 rfl) rfl
theorem q2838 : (Jvm.Cond.soleField "GridTableModel" "keeps") ∈ lw_all := lw_g (lw_at lw_m12 87 rfl) rfl
theorem q2839 : (Jvm.Cond.lays "GridTableModel" "GridTableModel" "seen" "LGridTableModel$Sheet;") ∈ lw_all := lw_g (lw_at lw_m12 88 rfl) rfl
theorem q2840 : (Jvm.Cond.soleField "GridTableModel" "seen") ∈ lw_all := lw_g (lw_at lw_m12 89 rfl) rfl
theorem q2841 : (Jvm.Cond.lays "GridTableModel" "GridTableModel" "on" "LGridTableModel$Places;") ∈ lw_all := lw_g (lw_at lw_m12 90 rfl) rfl
theorem q2842 : (Jvm.Cond.soleField "GridTableModel" "on") ∈ lw_all := lw_g (lw_at lw_m12 91 rfl) rfl
theorem q2843 : (Jvm.Cond.lays "GridTableModel" "GridTableModel" "walk" "I") ∈ lw_all := lw_g (lw_at lw_m12 92 rfl) rfl
theorem q2844 : (Jvm.Cond.soleField "GridTableModel" "walk") ∈ lw_all := lw_g (lw_at lw_m12 93 rfl) rfl
theorem q2845 : (Jvm.Cond.laysFinal "GridTableModel" "GridTableModel" "hull" "[I") ∈ lw_all := lw_g (lw_at lw_m12 94 rfl) rfl
theorem q2846 : (Jvm.Cond.soleField "GridTableModel" "hull") ∈ lw_all := lw_g (lw_at lw_m12 95 rfl) rfl
theorem q2847 : (Jvm.Cond.lays "GridTableModel" "GridTableModel" "hulls" "I") ∈ lw_all := lw_g (lw_at lw_m12 96 rfl) rfl
theorem q2848 : (Jvm.Cond.soleField "GridTableModel" "hulls") ∈ lw_all := lw_g (lw_at lw_m12 97 rfl) rfl
theorem q2849 : (Jvm.Cond.superclass "GridTableModel" "java/lang/Object") ∈ lw_all := lw_g (lw_at lw_m12 98 rfl) rfl
theorem q2851 : (Jvm.Cond.instanceMethod ({ cls := "GridTableModel", name := "thrown", desc := "()I" } : Jvm.MethodName)) ∈ lw_all := lw_g (lw_at lw_m12 100 rfl) rfl
theorem q2852 : (Jvm.Cond.selects "GridTableModel" ({ cls := "GridTableModel", name := "thrown", desc := "()I" } : Jvm.MethodName) ({ cls := "GridTableModel", name := "thrown", desc := "()I" } : Jvm.MethodName)) ∈ lw_all := lw_g (lw_at lw_m12 101 rfl) rfl
theorem q2853 : (Jvm.Cond.code ({ cls := "GridTableModel", name := "thrown", desc := "()I" } : Jvm.MethodName) prog_40_method_2_code (1 : Nat) (Option.some Jvm.ClassFile.FieldType.int)) ∈ lw_all := lw_g (lw_at lw_m12 102 rfl) rfl
theorem q2855 : (Jvm.Cond.instanceMethod ({ cls := "GridTableModel", name := "feed", desc := "(IIIII)I" } : Jvm.MethodName)) ∈ lw_all := lw_g (lw_at lw_m12 104 rfl) rfl
theorem q2856 : (Jvm.Cond.selects "GridTableModel" ({ cls := "GridTableModel", name := "feed", desc := "(IIIII)I" } : Jvm.MethodName) ({ cls := "GridTableModel", name := "feed", desc := "(IIIII)I" } : Jvm.MethodName)) ∈ lw_all := lw_g (lw_at lw_m12 105 rfl) rfl
theorem q2857 : (Jvm.Cond.code ({ cls := "GridTableModel", name := "feed", desc := "(IIIII)I" } : Jvm.MethodName) prog_40_method_72_code (8 : Nat) (Option.some Jvm.ClassFile.FieldType.int)) ∈ lw_all := lw_g (lw_at lw_m12 106 rfl) rfl
theorem q2858 : (Jvm.Cond.methodLink "GridTableModel" (378 : Nat) ({ cls := "GridTableModel", name := "no", desc := "(I)I" } : Jvm.MethodName)) ∈ lw_all := lw_g (lw_at lw_m12 107 rfl) rfl
theorem q2859 : (Jvm.Cond.privateMethod ({ cls := "GridTableModel", name := "no", desc := "(I)I" } : Jvm.MethodName)) ∈ lw_tbl := lw_at lw_m12 108 rfl
theorem q2860 : (Jvm.Cond.instanceMethod ({ cls := "GridTableModel", name := "no", desc := "(I)I" } : Jvm.MethodName)) ∈ lw_all := lw_g (lw_at lw_m12 109 rfl) rfl
theorem q2861 : (Jvm.Cond.code ({ cls := "GridTableModel", name := "no", desc := "(I)I" } : Jvm.MethodName) prog_40_method_3_code (2 : Nat) (Option.some Jvm.ClassFile.FieldType.int)) ∈ lw_all := lw_g (lw_at lw_m12 110 rfl) rfl
theorem q2863 : (Jvm.Cond.instanceMethod ({ cls := "GridTableModel", name := "trim", desc := "(I)I" } : Jvm.MethodName)) ∈ lw_all := lw_g (lw_at lw_m12 112 rfl) rfl
theorem q2864 : (Jvm.Cond.selects "GridTableModel" ({ cls := "GridTableModel", name := "trim", desc := "(I)I" } : Jvm.MethodName) ({ cls := "GridTableModel", name := "trim", desc := "(I)I" } : Jvm.MethodName)) ∈ lw_all := lw_g (lw_at lw_m12 113 rfl) rfl
theorem q2865 : (Jvm.Cond.code ({ cls := "GridTableModel", name := "trim", desc := "(I)I" } : Jvm.MethodName) prog_40_method_73_code (2 : Nat) (Option.some Jvm.ClassFile.FieldType.int)) ∈ lw_all := lw_g (lw_at lw_m12 114 rfl) rfl
theorem q2866 : (Jvm.Cond.methodLink "GridTableModel" (69 : Nat) ({ cls := "GridTableModel", name := "isIn", desc := "(III)Z" } : Jvm.MethodName)) ∈ lw_all := lw_g (lw_at lw_m12 115 rfl) rfl
theorem q2867 : (Jvm.Cond.static ({ cls := "GridTableModel", name := "isIn", desc := "(III)Z" } : Jvm.MethodName)) ∈ lw_all := lw_g (lw_at lw_m12 116 rfl) rfl
theorem q2868 : (Jvm.Cond.code ({ cls := "GridTableModel", name := "isIn", desc := "(III)Z" } : Jvm.MethodName) prog_40_method_4_code (3 : Nat) (Option.some Jvm.ClassFile.FieldType.boolean)) ∈ lw_all := lw_g (lw_at lw_m12 117 rfl) rfl
theorem q2870 : (Jvm.Cond.instanceMethod ({ cls := "GridTableModel", name := "teach", desc := "()I" } : Jvm.MethodName)) ∈ lw_all := lw_g (lw_at lw_m12 119 rfl) rfl
theorem q2871 : (Jvm.Cond.selects "GridTableModel" ({ cls := "GridTableModel", name := "teach", desc := "()I" } : Jvm.MethodName) ({ cls := "GridTableModel", name := "teach", desc := "()I" } : Jvm.MethodName)) ∈ lw_all := lw_g (lw_at lw_m12 120 rfl) rfl
theorem q2872 : (Jvm.Cond.code ({ cls := "GridTableModel", name := "teach", desc := "()I" } : Jvm.MethodName) prog_40_method_74_code (5 : Nat) (Option.some Jvm.ClassFile.FieldType.int)) ∈ lw_all := lw_g (lw_at lw_m12 121 rfl) rfl
theorem q2873 : (Jvm.Cond.methodLink "GridTableModel" (381 : Nat) ({ cls := "GridTableModel", name := "read", desc := "(LGridTableModel$Sheet;LGridTableModel$Places;)I" } : Jvm.MethodName)) ∈ lw_all := lw_g (lw_at lw_m12 122 rfl) rfl
theorem q2874 : (Jvm.Cond.privateMethod ({ cls := "GridTableModel", name := "read", desc := "(LGridTableModel$Sheet;LGridTableModel$Places;)I" } : Jvm.MethodName)) ∈ lw_tbl := lw_at lw_m12 123 rfl
theorem q2875 : (Jvm.Cond.instanceMethod ({ cls := "GridTableModel", name := "read", desc := "(LGridTableModel$Sheet;LGridTableModel$Places;)I" } : Jvm.MethodName)) ∈ lw_all := lw_g (lw_at lw_m12 124 rfl) rfl
theorem q2876 : (Jvm.Cond.code ({ cls := "GridTableModel", name := "read", desc := "(LGridTableModel$Sheet;LGridTableModel$Places;)I" } : Jvm.MethodName) prog_40_method_71_code (5 : Nat) (Option.some Jvm.ClassFile.FieldType.int)) ∈ lw_all := lw_g (lw_at lw_m12 125 rfl) rfl
theorem q2877 : (Jvm.Cond.methodLink "GridTableModel" (367 : Nat) ({ cls := "GridTableModel", name := "cutIntoTokens", desc := "(LGridTableModel$Sheet;)V" } : Jvm.MethodName)) ∈ lw_all := lw_g (lw_at lw_m12 126 rfl) rfl
theorem q2878 : (Jvm.Cond.privateMethod ({ cls := "GridTableModel", name := "cutIntoTokens", desc := "(LGridTableModel$Sheet;)V" } : Jvm.MethodName)) ∈ lw_tbl := lw_at lw_m12 127 rfl
theorem q2879 : (Jvm.Cond.instanceMethod ({ cls := "GridTableModel", name := "cutIntoTokens", desc := "(LGridTableModel$Sheet;)V" } : Jvm.MethodName)) ∈ lw_all := lw_g (lw_at lw_m12 128 rfl) rfl
theorem q2880 : (Jvm.Cond.code ({ cls := "GridTableModel", name := "cutIntoTokens", desc := "(LGridTableModel$Sheet;)V" } : Jvm.MethodName) prog_40_method_47_code (4 : Nat) (Option.none : Option Jvm.ClassFile.FieldType)) ∈ lw_all := lw_g (lw_at lw_m12 129 rfl) rfl
theorem q2881 : (Jvm.Cond.methodLink "GridTableModel" (227 : Nat) ({ cls := "GridTableModel", name := "byteOf", desc := "(I)I" } : Jvm.MethodName)) ∈ lw_all := lw_g (lw_at lw_m12 130 rfl) rfl
theorem q2882 : (Jvm.Cond.privateMethod ({ cls := "GridTableModel", name := "byteOf", desc := "(I)I" } : Jvm.MethodName)) ∈ lw_tbl := lw_at lw_m12 131 rfl
theorem q2883 : (Jvm.Cond.instanceMethod ({ cls := "GridTableModel", name := "byteOf", desc := "(I)I" } : Jvm.MethodName)) ∈ lw_all := lw_g (lw_at lw_m12 132 rfl) rfl
theorem q2884 : (Jvm.Cond.code ({ cls := "GridTableModel", name := "byteOf", desc := "(I)I" } : Jvm.MethodName) prog_40_method_44_code (2 : Nat) (Option.some Jvm.ClassFile.FieldType.int)) ∈ lw_all := lw_g (lw_at lw_m12 133 rfl) rfl
theorem q2885 : (Jvm.Cond.methodLink "GridTableModel" (263 : Nat) ({ cls := "GridTableModel", name := "kindAt", desc := "(LGridTableModel$Sheet;II)I" } : Jvm.MethodName)) ∈ lw_all := lw_g (lw_at lw_m12 134 rfl) rfl
theorem q2886 : (Jvm.Cond.privateMethod ({ cls := "GridTableModel", name := "kindAt", desc := "(LGridTableModel$Sheet;II)I" } : Jvm.MethodName)) ∈ lw_tbl := lw_at lw_m12 135 rfl
theorem q2887 : (Jvm.Cond.instanceMethod ({ cls := "GridTableModel", name := "kindAt", desc := "(LGridTableModel$Sheet;II)I" } : Jvm.MethodName)) ∈ lw_all := lw_g (lw_at lw_m12 136 rfl) rfl
theorem q2888 : (Jvm.Cond.code ({ cls := "GridTableModel", name := "kindAt", desc := "(LGridTableModel$Sheet;II)I" } : Jvm.MethodName) prog_40_method_45_code (7 : Nat) (Option.some Jvm.ClassFile.FieldType.int)) ∈ lw_all := lw_g (lw_at lw_m12 137 rfl) rfl
theorem q2889 : (Jvm.Cond.methodLink "GridTableModel" (230 : Nat) ({ cls := "GridTableModel", name := "isSmall", desc := "(I)Z" } : Jvm.MethodName)) ∈ lw_all := lw_g (lw_at lw_m12 138 rfl) rfl
theorem q2890 : (Jvm.Cond.static ({ cls := "GridTableModel", name := "isSmall", desc := "(I)Z" } : Jvm.MethodName)) ∈ lw_all := lw_g (lw_at lw_m12 139 rfl) rfl
theorem q2891 : (Jvm.Cond.code ({ cls := "GridTableModel", name := "isSmall", desc := "(I)Z" } : Jvm.MethodName) prog_40_method_42_code (1 : Nat) (Option.some Jvm.ClassFile.FieldType.boolean)) ∈ lw_all := lw_g (lw_at lw_m12 140 rfl) rfl
theorem q2892 : (Jvm.Cond.methodLink "GridTableModel" (233 : Nat) ({ cls := "GridTableModel", name := "isDigit", desc := "(I)Z" } : Jvm.MethodName)) ∈ lw_all := lw_g (lw_at lw_m12 141 rfl) rfl
theorem q2893 : (Jvm.Cond.static ({ cls := "GridTableModel", name := "isDigit", desc := "(I)Z" } : Jvm.MethodName)) ∈ lw_all := lw_g (lw_at lw_m12 142 rfl) rfl
theorem q2894 : (Jvm.Cond.code ({ cls := "GridTableModel", name := "isDigit", desc := "(I)Z" } : Jvm.MethodName) prog_40_method_43_code (1 : Nat) (Option.some Jvm.ClassFile.FieldType.boolean)) ∈ lw_all := lw_g (lw_at lw_m12 143 rfl) rfl
theorem q2895 : (Jvm.Cond.methodLink "GridTableModel" (239 : Nat) ({ cls := "GridTableModel", name := "word", desc := "(II)I" } : Jvm.MethodName)) ∈ lw_all := lw_g (lw_at lw_m12 144 rfl) rfl
theorem q2896 : (Jvm.Cond.privateMethod ({ cls := "GridTableModel", name := "word", desc := "(II)I" } : Jvm.MethodName)) ∈ lw_tbl := lw_at lw_m12 145 rfl
theorem q2897 : (Jvm.Cond.instanceMethod ({ cls := "GridTableModel", name := "word", desc := "(II)I" } : Jvm.MethodName)) ∈ lw_all := lw_g (lw_at lw_m12 146 rfl) rfl
theorem q2898 : (Jvm.Cond.code ({ cls := "GridTableModel", name := "word", desc := "(II)I" } : Jvm.MethodName) prog_40_method_46_code (6 : Nat) (Option.some Jvm.ClassFile.FieldType.int)) ∈ lw_all := lw_g (lw_at lw_m12 147 rfl) rfl
theorem q2899 : (Jvm.Cond.fieldLink "GridTableModel" (249 : Nat) "GridTableModel" "WORDS" "[Ljava/lang/String;") ∈ lw_all := lw_g (lw_at lw_m12 148 rfl) rfl
theorem q2900 : (Jvm.Cond.laysStatic "GridTableModel" "WORDS" "[Ljava/lang/String;") ∈ lw_tbl := lw_at lw_m12 149 rfl
theorem q2901 : (Jvm.Cond.methodLink "GridTableModel" (253 : Nat) ({ cls := "java/lang/String", name := "length", desc := "()I" } : Jvm.MethodName)) ∈ lw_all := lw_g (lw_at lw_m12 150 rfl) rfl
theorem q2902 : (Jvm.Cond.methodLink "GridTableModel" (256 : Nat) ({ cls := "java/lang/String", name := "charAt", desc := "(I)C" } : Jvm.MethodName)) ∈ lw_all := lw_g (lw_at lw_m12 151 rfl) rfl
theorem q2903 : (Jvm.Cond.stringRef "GridTableModel" (242 : Nat) ",;()[]+-*/<>=") ∈ lw_tbl := lw_at lw_m12 152 rfl
theorem q2904 : (Jvm.Cond.methodLink "GridTableModel" (244 : Nat) ({ cls := "java/lang/String", name := "indexOf", desc := "(I)I" } : Jvm.MethodName)) ∈ lw_all := lw_g (lw_at lw_m12 153 rfl) rfl
theorem q2905 : (Jvm.Cond.methodLink "GridTableModel" (371 : Nat) ({ cls := "GridTableModel", name := "isList", desc := "(LGridTableModel$Sheet;)Z" } : Jvm.MethodName)) ∈ lw_all := lw_g (lw_at lw_m12 154 rfl) rfl
theorem q2906 : (Jvm.Cond.privateMethod ({ cls := "GridTableModel", name := "isList", desc := "(LGridTableModel$Sheet;)Z" } : Jvm.MethodName)) ∈ lw_tbl := lw_at lw_m12 155 rfl
theorem q2907 : (Jvm.Cond.instanceMethod ({ cls := "GridTableModel", name := "isList", desc := "(LGridTableModel$Sheet;)Z" } : Jvm.MethodName)) ∈ lw_all := lw_g (lw_at lw_m12 156 rfl) rfl
theorem q2908 : (Jvm.Cond.code ({ cls := "GridTableModel", name := "isList", desc := "(LGridTableModel$Sheet;)Z" } : Jvm.MethodName) prog_40_method_51_code (2 : Nat) (Option.some Jvm.ClassFile.FieldType.boolean)) ∈ lw_all := lw_g (lw_at lw_m12 157 rfl) rfl
theorem q2909 : (Jvm.Cond.methodLink "GridTableModel" (277 : Nat) ({ cls := "GridTableModel", name := "isLine", desc := "(LGridTableModel$Sheet;)Z" } : Jvm.MethodName)) ∈ lw_all := lw_g (lw_at lw_m12 158 rfl) rfl
theorem q2910 : (Jvm.Cond.privateMethod ({ cls := "GridTableModel", name := "isLine", desc := "(LGridTableModel$Sheet;)Z" } : Jvm.MethodName)) ∈ lw_tbl := lw_at lw_m12 159 rfl
theorem q2911 : (Jvm.Cond.instanceMethod ({ cls := "GridTableModel", name := "isLine", desc := "(LGridTableModel$Sheet;)Z" } : Jvm.MethodName)) ∈ lw_all := lw_g (lw_at lw_m12 160 rfl) rfl
theorem q2912 : (Jvm.Cond.code ({ cls := "GridTableModel", name := "isLine", desc := "(LGridTableModel$Sheet;)Z" } : Jvm.MethodName) prog_40_method_52_code (2 : Nat) (Option.some Jvm.ClassFile.FieldType.boolean)) ∈ lw_all := lw_g (lw_at lw_m12 161 rfl) rfl
theorem q2913 : (Jvm.Cond.methodLink "GridTableModel" (273 : Nat) ({ cls := "GridTableModel", name := "eat", desc := "(LGridTableModel$Sheet;[I)Z" } : Jvm.MethodName)) ∈ lw_all := lw_g (lw_at lw_m12 162 rfl) rfl
theorem q2914 : (Jvm.Cond.privateMethod ({ cls := "GridTableModel", name := "eat", desc := "(LGridTableModel$Sheet;[I)Z" } : Jvm.MethodName)) ∈ lw_tbl := lw_at lw_m12 163 rfl
theorem q2915 : (Jvm.Cond.instanceMethod ({ cls := "GridTableModel", name := "eat", desc := "(LGridTableModel$Sheet;[I)Z" } : Jvm.MethodName)) ∈ lw_all := lw_g (lw_at lw_m12 164 rfl) rfl
theorem q2916 : (Jvm.Cond.code ({ cls := "GridTableModel", name := "eat", desc := "(LGridTableModel$Sheet;[I)Z" } : Jvm.MethodName) prog_40_method_48_code (7 : Nat) (Option.some Jvm.ClassFile.FieldType.boolean)) ∈ lw_all := lw_g (lw_at lw_m12 165 rfl) rfl
theorem q2917 : (Jvm.Cond.methodLink "GridTableModel" (281 : Nat) ({ cls := "GridTableModel", name := "areSums", desc := "(LGridTableModel$Sheet;)Z" } : Jvm.MethodName)) ∈ lw_all := lw_g (lw_at lw_m12 166 rfl) rfl
theorem q2918 : (Jvm.Cond.privateMethod ({ cls := "GridTableModel", name := "areSums", desc := "(LGridTableModel$Sheet;)Z" } : Jvm.MethodName)) ∈ lw_tbl := lw_at lw_m12 167 rfl
theorem q2919 : (Jvm.Cond.instanceMethod ({ cls := "GridTableModel", name := "areSums", desc := "(LGridTableModel$Sheet;)Z" } : Jvm.MethodName)) ∈ lw_all := lw_g (lw_at lw_m12 168 rfl) rfl
theorem q2920 : (Jvm.Cond.code ({ cls := "GridTableModel", name := "areSums", desc := "(LGridTableModel$Sheet;)Z" } : Jvm.MethodName) prog_40_method_53_code (2 : Nat) (Option.some Jvm.ClassFile.FieldType.boolean)) ∈ lw_all := lw_g (lw_at lw_m12 169 rfl) rfl
theorem q2921 : (Jvm.Cond.methodLink "GridTableModel" (290 : Nat) ({ cls := "GridTableModel", name := "isSum", desc := "(LGridTableModel$Sheet;)Z" } : Jvm.MethodName)) ∈ lw_all := lw_g (lw_at lw_m12 170 rfl) rfl
theorem q2922 : (Jvm.Cond.privateMethod ({ cls := "GridTableModel", name := "isSum", desc := "(LGridTableModel$Sheet;)Z" } : Jvm.MethodName)) ∈ lw_tbl := lw_at lw_m12 171 rfl
theorem q2923 : (Jvm.Cond.instanceMethod ({ cls := "GridTableModel", name := "isSum", desc := "(LGridTableModel$Sheet;)Z" } : Jvm.MethodName)) ∈ lw_all := lw_g (lw_at lw_m12 172 rfl) rfl
theorem q2924 : (Jvm.Cond.code ({ cls := "GridTableModel", name := "isSum", desc := "(LGridTableModel$Sheet;)Z" } : Jvm.MethodName) prog_40_method_59_code (2 : Nat) (Option.some Jvm.ClassFile.FieldType.boolean)) ∈ lw_all := lw_g (lw_at lw_m12 173 rfl) rfl
theorem q2925 : (Jvm.Cond.methodLink "GridTableModel" (309 : Nat) ({ cls := "GridTableModel", name := "isProduct", desc := "(LGridTableModel$Sheet;)Z" } : Jvm.MethodName)) ∈ lw_all := lw_g (lw_at lw_m12 174 rfl) rfl
theorem q2926 : (Jvm.Cond.privateMethod ({ cls := "GridTableModel", name := "isProduct", desc := "(LGridTableModel$Sheet;)Z" } : Jvm.MethodName)) ∈ lw_tbl := lw_at lw_m12 175 rfl
theorem q2927 : (Jvm.Cond.instanceMethod ({ cls := "GridTableModel", name := "isProduct", desc := "(LGridTableModel$Sheet;)Z" } : Jvm.MethodName)) ∈ lw_all := lw_g (lw_at lw_m12 176 rfl) rfl
theorem q2928 : (Jvm.Cond.code ({ cls := "GridTableModel", name := "isProduct", desc := "(LGridTableModel$Sheet;)Z" } : Jvm.MethodName) prog_40_method_60_code (2 : Nat) (Option.some Jvm.ClassFile.FieldType.boolean)) ∈ lw_all := lw_g (lw_at lw_m12 177 rfl) rfl
theorem q2929 : (Jvm.Cond.methodLink "GridTableModel" (312 : Nat) ({ cls := "GridTableModel", name := "isValue", desc := "(LGridTableModel$Sheet;)Z" } : Jvm.MethodName)) ∈ lw_all := lw_g (lw_at lw_m12 178 rfl) rfl
theorem q2930 : (Jvm.Cond.privateMethod ({ cls := "GridTableModel", name := "isValue", desc := "(LGridTableModel$Sheet;)Z" } : Jvm.MethodName)) ∈ lw_tbl := lw_at lw_m12 179 rfl
theorem q2931 : (Jvm.Cond.instanceMethod ({ cls := "GridTableModel", name := "isValue", desc := "(LGridTableModel$Sheet;)Z" } : Jvm.MethodName)) ∈ lw_all := lw_g (lw_at lw_m12 180 rfl) rfl
theorem q2932 : (Jvm.Cond.code ({ cls := "GridTableModel", name := "isValue", desc := "(LGridTableModel$Sheet;)Z" } : Jvm.MethodName) prog_40_method_61_code (2 : Nat) (Option.some Jvm.ClassFile.FieldType.boolean)) ∈ lw_all := lw_g (lw_at lw_m12 181 rfl) rfl
theorem q2933 : (Jvm.Cond.methodLink "GridTableModel" (302 : Nat) ({ cls := "GridTableModel", name := "enter", desc := "(LGridTableModel$Sheet;I)Z" } : Jvm.MethodName)) ∈ lw_all := lw_g (lw_at lw_m12 182 rfl) rfl
theorem q2934 : (Jvm.Cond.privateMethod ({ cls := "GridTableModel", name := "enter", desc := "(LGridTableModel$Sheet;I)Z" } : Jvm.MethodName)) ∈ lw_tbl := lw_at lw_m12 183 rfl
theorem q2935 : (Jvm.Cond.instanceMethod ({ cls := "GridTableModel", name := "enter", desc := "(LGridTableModel$Sheet;I)Z" } : Jvm.MethodName)) ∈ lw_all := lw_g (lw_at lw_m12 184 rfl) rfl
theorem q2936 : (Jvm.Cond.code ({ cls := "GridTableModel", name := "enter", desc := "(LGridTableModel$Sheet;I)Z" } : Jvm.MethodName) prog_40_method_49_code (3 : Nat) (Option.some Jvm.ClassFile.FieldType.boolean)) ∈ lw_all := lw_g (lw_at lw_m12 185 rfl) rfl
theorem q2937 : (Jvm.Cond.methodLink "GridTableModel" (306 : Nat) ({ cls := "GridTableModel", name := "leave", desc := "(LGridTableModel$Sheet;I)Z" } : Jvm.MethodName)) ∈ lw_all := lw_g (lw_at lw_m12 186 rfl) rfl
theorem q2938 : (Jvm.Cond.privateMethod ({ cls := "GridTableModel", name := "leave", desc := "(LGridTableModel$Sheet;I)Z" } : Jvm.MethodName)) ∈ lw_tbl := lw_at lw_m12 187 rfl
theorem q2939 : (Jvm.Cond.instanceMethod ({ cls := "GridTableModel", name := "leave", desc := "(LGridTableModel$Sheet;I)Z" } : Jvm.MethodName)) ∈ lw_all := lw_g (lw_at lw_m12 188 rfl) rfl
theorem q2940 : (Jvm.Cond.code ({ cls := "GridTableModel", name := "leave", desc := "(LGridTableModel$Sheet;I)Z" } : Jvm.MethodName) prog_40_method_50_code (3 : Nat) (Option.some Jvm.ClassFile.FieldType.boolean)) ∈ lw_all := lw_g (lw_at lw_m12 189 rfl) rfl
theorem q2941 : (Jvm.Cond.methodLink "GridTableModel" (284 : Nat) ({ cls := "GridTableModel", name := "isShapeLine", desc := "(LGridTableModel$Sheet;)Z" } : Jvm.MethodName)) ∈ lw_all := lw_g (lw_at lw_m12 190 rfl) rfl
theorem q2942 : (Jvm.Cond.privateMethod ({ cls := "GridTableModel", name := "isShapeLine", desc := "(LGridTableModel$Sheet;)Z" } : Jvm.MethodName)) ∈ lw_tbl := lw_at lw_m12 191 rfl
theorem q2943 : (Jvm.Cond.instanceMethod ({ cls := "GridTableModel", name := "isShapeLine", desc := "(LGridTableModel$Sheet;)Z" } : Jvm.MethodName)) ∈ lw_all := lw_g (lw_at lw_m12 192 rfl) rfl
theorem q2944 : (Jvm.Cond.code ({ cls := "GridTableModel", name := "isShapeLine", desc := "(LGridTableModel$Sheet;)Z" } : Jvm.MethodName) prog_40_method_55_code (2 : Nat) (Option.some Jvm.ClassFile.FieldType.boolean)) ∈ lw_all := lw_g (lw_at lw_m12 193 rfl) rfl
theorem q2945 : (Jvm.Cond.methodLink "GridTableModel" (287 : Nat) ({ cls := "GridTableModel", name := "mayTest", desc := "(LGridTableModel$Sheet;)Z" } : Jvm.MethodName)) ∈ lw_all := lw_g (lw_at lw_m12 194 rfl) rfl
theorem q2946 : (Jvm.Cond.privateMethod ({ cls := "GridTableModel", name := "mayTest", desc := "(LGridTableModel$Sheet;)Z" } : Jvm.MethodName)) ∈ lw_tbl := lw_at lw_m12 195 rfl
theorem q2947 : (Jvm.Cond.instanceMethod ({ cls := "GridTableModel", name := "mayTest", desc := "(LGridTableModel$Sheet;)Z" } : Jvm.MethodName)) ∈ lw_all := lw_g (lw_at lw_m12 196 rfl) rfl
theorem q2948 : (Jvm.Cond.code ({ cls := "GridTableModel", name := "mayTest", desc := "(LGridTableModel$Sheet;)Z" } : Jvm.MethodName) prog_40_method_54_code (2 : Nat) (Option.some Jvm.ClassFile.FieldType.boolean)) ∈ lw_all := lw_g (lw_at lw_m12 197 rfl) rfl
theorem q2949 : (Jvm.Cond.methodLink "GridTableModel" (293 : Nat) ({ cls := "GridTableModel", name := "isTest", desc := "(LGridTableModel$Sheet;)Z" } : Jvm.MethodName)) ∈ lw_all := lw_g (lw_at lw_m12 198 rfl) rfl
theorem q2950 : (Jvm.Cond.privateMethod ({ cls := "GridTableModel", name := "isTest", desc := "(LGridTableModel$Sheet;)Z" } : Jvm.MethodName)) ∈ lw_tbl := lw_at lw_m12 199 rfl
theorem q2951 : (Jvm.Cond.instanceMethod ({ cls := "GridTableModel", name := "isTest", desc := "(LGridTableModel$Sheet;)Z" } : Jvm.MethodName)) ∈ lw_all := lw_g (lw_at lw_m12 200 rfl) rfl
theorem q2952 : (Jvm.Cond.code ({ cls := "GridTableModel", name := "isTest", desc := "(LGridTableModel$Sheet;)Z" } : Jvm.MethodName) prog_40_method_56_code (2 : Nat) (Option.some Jvm.ClassFile.FieldType.boolean)) ∈ lw_all := lw_g (lw_at lw_m12 201 rfl) rfl
theorem q2953 : (Jvm.Cond.methodLink "GridTableModel" (296 : Nat) ({ cls := "GridTableModel", name := "isBoth", desc := "(LGridTableModel$Sheet;)Z" } : Jvm.MethodName)) ∈ lw_all := lw_g (lw_at lw_m12 202 rfl) rfl
theorem q2954 : (Jvm.Cond.privateMethod ({ cls := "GridTableModel", name := "isBoth", desc := "(LGridTableModel$Sheet;)Z" } : Jvm.MethodName)) ∈ lw_tbl := lw_at lw_m12 203 rfl
theorem q2955 : (Jvm.Cond.instanceMethod ({ cls := "GridTableModel", name := "isBoth", desc := "(LGridTableModel$Sheet;)Z" } : Jvm.MethodName)) ∈ lw_all := lw_g (lw_at lw_m12 204 rfl) rfl
theorem q2956 : (Jvm.Cond.code ({ cls := "GridTableModel", name := "isBoth", desc := "(LGridTableModel$Sheet;)Z" } : Jvm.MethodName) prog_40_method_57_code (2 : Nat) (Option.some Jvm.ClassFile.FieldType.boolean)) ∈ lw_all := lw_g (lw_at lw_m12 205 rfl) rfl
theorem q2957 : (Jvm.Cond.methodLink "GridTableModel" (299 : Nat) ({ cls := "GridTableModel", name := "isSingle", desc := "(LGridTableModel$Sheet;)Z" } : Jvm.MethodName)) ∈ lw_all := lw_g (lw_at lw_m12 206 rfl) rfl
theorem q2958 : (Jvm.Cond.privateMethod ({ cls := "GridTableModel", name := "isSingle", desc := "(LGridTableModel$Sheet;)Z" } : Jvm.MethodName)) ∈ lw_tbl := lw_at lw_m12 207 rfl
theorem q2959 : (Jvm.Cond.instanceMethod ({ cls := "GridTableModel", name := "isSingle", desc := "(LGridTableModel$Sheet;)Z" } : Jvm.MethodName)) ∈ lw_all := lw_g (lw_at lw_m12 208 rfl) rfl
theorem q2960 : (Jvm.Cond.code ({ cls := "GridTableModel", name := "isSingle", desc := "(LGridTableModel$Sheet;)Z" } : Jvm.MethodName) prog_40_method_58_code (2 : Nat) (Option.some Jvm.ClassFile.FieldType.boolean)) ∈ lw_all := lw_g (lw_at lw_m12 209 rfl) rfl
theorem q2961 : (Jvm.Cond.methodLink "GridTableModel" (374 : Nat) ({ cls := "GridTableModel", name := "errorOf", desc := "(LGridTableModel$Sheet;ILGridTableModel$Places;)I" } : Jvm.MethodName)) ∈ lw_all := lw_g (lw_at lw_m12 210 rfl) rfl
theorem q2962 : (Jvm.Cond.privateMethod ({ cls := "GridTableModel", name := "errorOf", desc := "(LGridTableModel$Sheet;ILGridTableModel$Places;)I" } : Jvm.MethodName)) ∈ lw_tbl := lw_at lw_m12 211 rfl
theorem q2963 : (Jvm.Cond.instanceMethod ({ cls := "GridTableModel", name := "errorOf", desc := "(LGridTableModel$Sheet;ILGridTableModel$Places;)I" } : Jvm.MethodName)) ∈ lw_all := lw_g (lw_at lw_m12 212 rfl) rfl
theorem q2964 : (Jvm.Cond.code ({ cls := "GridTableModel", name := "errorOf", desc := "(LGridTableModel$Sheet;ILGridTableModel$Places;)I" } : Jvm.MethodName) prog_40_method_70_code (4 : Nat) (Option.some Jvm.ClassFile.FieldType.int)) ∈ lw_all := lw_g (lw_at lw_m12 213 rfl) rfl
theorem q2965 : (Jvm.Cond.methodLink "GridTableModel" (357 : Nat) ({ cls := "GridTableModel", name := "errorOfName", desc := "(LGridTableModel$Sheet;I)I" } : Jvm.MethodName)) ∈ lw_all := lw_g (lw_at lw_m12 214 rfl) rfl
theorem q2966 : (Jvm.Cond.privateMethod ({ cls := "GridTableModel", name := "errorOfName", desc := "(LGridTableModel$Sheet;I)I" } : Jvm.MethodName)) ∈ lw_tbl := lw_at lw_m12 215 rfl
theorem q2967 : (Jvm.Cond.instanceMethod ({ cls := "GridTableModel", name := "errorOfName", desc := "(LGridTableModel$Sheet;I)I" } : Jvm.MethodName)) ∈ lw_all := lw_g (lw_at lw_m12 216 rfl) rfl
theorem q2968 : (Jvm.Cond.code ({ cls := "GridTableModel", name := "errorOfName", desc := "(LGridTableModel$Sheet;I)I" } : Jvm.MethodName) prog_40_method_67_code (6 : Nat) (Option.some Jvm.ClassFile.FieldType.int)) ∈ lw_all := lw_g (lw_at lw_m12 217 rfl) rfl
theorem q2969 : (Jvm.Cond.methodLink "GridTableModel" (334 : Nat) ({ cls := "GridTableModel", name := "text", desc := "(LGridTableModel$Sheet;I)Ljava/lang/String;" } : Jvm.MethodName)) ∈ lw_all := lw_g (lw_at lw_m12 218 rfl) rfl
theorem q2970 : (Jvm.Cond.privateMethod ({ cls := "GridTableModel", name := "text", desc := "(LGridTableModel$Sheet;I)Ljava/lang/String;" } : Jvm.MethodName)) ∈ lw_tbl := lw_at lw_m12 219 rfl
theorem q2971 : (Jvm.Cond.instanceMethod ({ cls := "GridTableModel", name := "text", desc := "(LGridTableModel$Sheet;I)Ljava/lang/String;" } : Jvm.MethodName)) ∈ lw_all := lw_g (lw_at lw_m12 220 rfl) rfl
theorem q2972 : (Jvm.Cond.code ({ cls := "GridTableModel", name := "text", desc := "(LGridTableModel$Sheet;I)Ljava/lang/String;" } : Jvm.MethodName) prog_40_method_62_code (5 : Nat) (Option.some (Jvm.ClassFile.FieldType.object "java/lang/String"))) ∈ lw_all := lw_g (lw_at lw_m12 221 rfl) rfl
theorem q2973 : (Jvm.Cond.classLink "GridTableModel" (315 : Nat) "java/lang/StringBuilder") ∈ lw_all := lw_g (lw_at lw_m12 222 rfl) rfl
theorem q2974 : (Jvm.Cond.methodLink "GridTableModel" (317 : Nat) ({ cls := "java/lang/StringBuilder", name := "<init>", desc := "()V" } : Jvm.MethodName)) ∈ lw_all := lw_g (lw_at lw_m12 223 rfl) rfl
theorem q2975 : (Jvm.Cond.methodLink "GridTableModel" (318 : Nat) ({ cls := "java/lang/StringBuilder", name := "append", desc := "(C)Ljava/lang/StringBuilder;" } : Jvm.MethodName)) ∈ lw_all := lw_g (lw_at lw_m12 224 rfl) rfl
theorem q2976 : (Jvm.Cond.methodLink "GridTableModel" (322 : Nat) ({ cls := "java/lang/StringBuilder", name := "toString", desc := "()Ljava/lang/String;" } : Jvm.MethodName)) ∈ lw_all := lw_g (lw_at lw_m12 225 rfl) rfl
theorem q2977 : (Jvm.Cond.methodLink "GridTableModel" (341 : Nat) ({ cls := "GridTableModel", name := "errorOfNew", desc := "([Ljava/lang/String;ILjava/lang/String;)I" } : Jvm.MethodName)) ∈ lw_all := lw_g (lw_at lw_m12 226 rfl) rfl
theorem q2978 : (Jvm.Cond.static ({ cls := "GridTableModel", name := "errorOfNew", desc := "([Ljava/lang/String;ILjava/lang/String;)I" } : Jvm.MethodName)) ∈ lw_all := lw_g (lw_at lw_m12 227 rfl) rfl
theorem q2979 : (Jvm.Cond.code ({ cls := "GridTableModel", name := "errorOfNew", desc := "([Ljava/lang/String;ILjava/lang/String;)I" } : Jvm.MethodName) prog_40_method_65_code (3 : Nat) (Option.some Jvm.ClassFile.FieldType.int)) ∈ lw_all := lw_g (lw_at lw_m12 228 rfl) rfl
theorem q2980 : (Jvm.Cond.methodLink "GridTableModel" (330 : Nat) ({ cls := "GridTableModel", name := "find", desc := "([Ljava/lang/String;ILjava/lang/String;)I" } : Jvm.MethodName)) ∈ lw_all := lw_g (lw_at lw_m12 229 rfl) rfl
theorem q2981 : (Jvm.Cond.static ({ cls := "GridTableModel", name := "find", desc := "([Ljava/lang/String;ILjava/lang/String;)I" } : Jvm.MethodName)) ∈ lw_all := lw_g (lw_at lw_m12 230 rfl) rfl
theorem q2982 : (Jvm.Cond.code ({ cls := "GridTableModel", name := "find", desc := "([Ljava/lang/String;ILjava/lang/String;)I" } : Jvm.MethodName) prog_40_method_64_code (4 : Nat) (Option.some Jvm.ClassFile.FieldType.int)) ∈ lw_all := lw_g (lw_at lw_m12 231 rfl) rfl
theorem q2983 : (Jvm.Cond.methodLink "GridTableModel" (326 : Nat) ({ cls := "java/lang/String", name := "equals", desc := "(Ljava/lang/Object;)Z" } : Jvm.MethodName)) ∈ lw_all := lw_g (lw_at lw_m12 232 rfl) rfl
theorem q2984 : (Jvm.Cond.methodLink "GridTableModel" (347 : Nat) ({ cls := "GridTableModel", name := "isOfShape", desc := "(LGridTableModel$Sheet;I)Z" } : Jvm.MethodName)) ∈ lw_all := lw_g (lw_at lw_m12 233 rfl) rfl
theorem q2985 : (Jvm.Cond.static ({ cls := "GridTableModel", name := "isOfShape", desc := "(LGridTableModel$Sheet;I)Z" } : Jvm.MethodName)) ∈ lw_all := lw_g (lw_at lw_m12 234 rfl) rfl
theorem q2986 : (Jvm.Cond.code ({ cls := "GridTableModel", name := "isOfShape", desc := "(LGridTableModel$Sheet;I)Z" } : Jvm.MethodName) prog_40_method_66_code (4 : Nat) (Option.some Jvm.ClassFile.FieldType.boolean)) ∈ lw_all := lw_g (lw_at lw_m12 235 rfl) rfl
theorem q2987 : (Jvm.Cond.methodLink "GridTableModel" (353 : Nat) ({ cls := "GridTableModel", name := "errorOfCorner", desc := "(LGridTableModel$Sheet;I)I" } : Jvm.MethodName)) ∈ lw_all := lw_g (lw_at lw_m12 236 rfl) rfl
theorem q2988 : (Jvm.Cond.privateMethod ({ cls := "GridTableModel", name := "errorOfCorner", desc := "(LGridTableModel$Sheet;I)I" } : Jvm.MethodName)) ∈ lw_tbl := lw_at lw_m12 237 rfl
theorem q2989 : (Jvm.Cond.instanceMethod ({ cls := "GridTableModel", name := "errorOfCorner", desc := "(LGridTableModel$Sheet;I)I" } : Jvm.MethodName)) ∈ lw_all := lw_g (lw_at lw_m12 238 rfl) rfl
theorem q2990 : (Jvm.Cond.code ({ cls := "GridTableModel", name := "errorOfCorner", desc := "(LGridTableModel$Sheet;I)I" } : Jvm.MethodName) prog_40_method_68_code (5 : Nat) (Option.some Jvm.ClassFile.FieldType.int)) ∈ lw_all := lw_g (lw_at lw_m12 239 rfl) rfl
theorem q2991 : (Jvm.Cond.methodLink "GridTableModel" (360 : Nat) ({ cls := "GridTableModel", name := "number", desc := "(LGridTableModel$Sheet;I)I" } : Jvm.MethodName)) ∈ lw_all := lw_g (lw_at lw_m13 0 rfl) rfl
theorem q2992 : (Jvm.Cond.privateMethod ({ cls := "GridTableModel", name := "number", desc := "(LGridTableModel$Sheet;I)I" } : Jvm.MethodName)) ∈ lw_tbl := lw_at lw_m13 1 rfl
theorem q2993 : (Jvm.Cond.instanceMethod ({ cls := "GridTableModel", name := "number", desc := "(LGridTableModel$Sheet;I)I" } : Jvm.MethodName)) ∈ lw_all := lw_g (lw_at lw_m13 2 rfl) rfl
theorem q2994 : (Jvm.Cond.code ({ cls := "GridTableModel", name := "number", desc := "(LGridTableModel$Sheet;I)I" } : Jvm.MethodName) prog_40_method_63_code (5 : Nat) (Option.some Jvm.ClassFile.FieldType.int)) ∈ lw_all := lw_g (lw_at lw_m13 3 rfl) rfl
theorem q2995 : (Jvm.Cond.methodLink "GridTableModel" (363 : Nat) ({ cls := "GridTableModel", name := "end", desc := "(LGridTableModel$Sheet;LGridTableModel$Places;)V" } : Jvm.MethodName)) ∈ lw_all := lw_g (lw_at lw_m13 4 rfl) rfl
theorem q2996 : (Jvm.Cond.privateMethod ({ cls := "GridTableModel", name := "end", desc := "(LGridTableModel$Sheet;LGridTableModel$Places;)V" } : Jvm.MethodName)) ∈ lw_tbl := lw_at lw_m13 5 rfl
theorem q2997 : (Jvm.Cond.instanceMethod ({ cls := "GridTableModel", name := "end", desc := "(LGridTableModel$Sheet;LGridTableModel$Places;)V" } : Jvm.MethodName)) ∈ lw_all := lw_g (lw_at lw_m13 6 rfl) rfl
theorem q2998 : (Jvm.Cond.code ({ cls := "GridTableModel", name := "end", desc := "(LGridTableModel$Sheet;LGridTableModel$Places;)V" } : Jvm.MethodName) prog_40_method_69_code (6 : Nat) (Option.none : Option Jvm.ClassFile.FieldType)) ∈ lw_all := lw_g (lw_at lw_m13 7 rfl) rfl
theorem q2999 : (Jvm.Cond.methodLink "GridTableModel" (158 : Nat) ({ cls := "GridTableModel", name := "sum", desc := "()I" } : Jvm.MethodName)) ∈ lw_all := lw_g (lw_at lw_m13 8 rfl) rfl
theorem q3000 : (Jvm.Cond.privateMethod ({ cls := "GridTableModel", name := "sum", desc := "()I" } : Jvm.MethodName)) ∈ lw_tbl := lw_at lw_m13 9 rfl
theorem q3001 : (Jvm.Cond.instanceMethod ({ cls := "GridTableModel", name := "sum", desc := "()I" } : Jvm.MethodName)) ∈ lw_all := lw_g (lw_at lw_m13 10 rfl) rfl
theorem q3002 : (Jvm.Cond.code ({ cls := "GridTableModel", name := "sum", desc := "()I" } : Jvm.MethodName) prog_40_method_25_code (4 : Nat) (Option.some Jvm.ClassFile.FieldType.int)) ∈ lw_all := lw_g (lw_at lw_m13 11 rfl) rfl
theorem q3003 : (Jvm.Cond.methodLink "GridTableModel" (161 : Nat) ({ cls := "GridTableModel", name := "product", desc := "()I" } : Jvm.MethodName)) ∈ lw_all := lw_g (lw_at lw_m13 12 rfl) rfl
theorem q3004 : (Jvm.Cond.privateMethod ({ cls := "GridTableModel", name := "product", desc := "()I" } : Jvm.MethodName)) ∈ lw_tbl := lw_at lw_m13 13 rfl
theorem q3005 : (Jvm.Cond.instanceMethod ({ cls := "GridTableModel", name := "product", desc := "()I" } : Jvm.MethodName)) ∈ lw_all := lw_g (lw_at lw_m13 14 rfl) rfl
theorem q3006 : (Jvm.Cond.code ({ cls := "GridTableModel", name := "product", desc := "()I" } : Jvm.MethodName) prog_40_method_26_code (4 : Nat) (Option.some Jvm.ClassFile.FieldType.int)) ∈ lw_all := lw_g (lw_at lw_m13 15 rfl) rfl
theorem q3007 : (Jvm.Cond.methodLink "GridTableModel" (164 : Nat) ({ cls := "GridTableModel", name := "value", desc := "()I" } : Jvm.MethodName)) ∈ lw_all := lw_g (lw_at lw_m13 16 rfl) rfl
theorem q3008 : (Jvm.Cond.privateMethod ({ cls := "GridTableModel", name := "value", desc := "()I" } : Jvm.MethodName)) ∈ lw_tbl := lw_at lw_m13 17 rfl
theorem q3009 : (Jvm.Cond.instanceMethod ({ cls := "GridTableModel", name := "value", desc := "()I" } : Jvm.MethodName)) ∈ lw_all := lw_g (lw_at lw_m13 18 rfl) rfl
theorem q3010 : (Jvm.Cond.code ({ cls := "GridTableModel", name := "value", desc := "()I" } : Jvm.MethodName) prog_40_method_27_code (4 : Nat) (Option.some Jvm.ClassFile.FieldType.int)) ∈ lw_all := lw_g (lw_at lw_m13 19 rfl) rfl
theorem q3011 : (Jvm.Cond.methodLink "GridTableModel" (151 : Nat) ({ cls := "GridTableModel", name := "meant", desc := "()I" } : Jvm.MethodName)) ∈ lw_all := lw_g (lw_at lw_m13 20 rfl) rfl
theorem q3012 : (Jvm.Cond.privateMethod ({ cls := "GridTableModel", name := "meant", desc := "()I" } : Jvm.MethodName)) ∈ lw_tbl := lw_at lw_m13 21 rfl
theorem q3013 : (Jvm.Cond.instanceMethod ({ cls := "GridTableModel", name := "meant", desc := "()I" } : Jvm.MethodName)) ∈ lw_all := lw_g (lw_at lw_m13 22 rfl) rfl
theorem q3014 : (Jvm.Cond.code ({ cls := "GridTableModel", name := "meant", desc := "()I" } : Jvm.MethodName) prog_40_method_21_code (1 : Nat) (Option.some Jvm.ClassFile.FieldType.int)) ∈ lw_all := lw_g (lw_at lw_m13 23 rfl) rfl
theorem q3015 : (Jvm.Cond.methodLink "GridTableModel" (167 : Nat) ({ cls := "GridTableModel", name := "areaOf", desc := "(I)I" } : Jvm.MethodName)) ∈ lw_all := lw_g (lw_at lw_m13 24 rfl) rfl
theorem q3016 : (Jvm.Cond.privateMethod ({ cls := "GridTableModel", name := "areaOf", desc := "(I)I" } : Jvm.MethodName)) ∈ lw_tbl := lw_at lw_m13 25 rfl
theorem q3017 : (Jvm.Cond.instanceMethod ({ cls := "GridTableModel", name := "areaOf", desc := "(I)I" } : Jvm.MethodName)) ∈ lw_all := lw_g (lw_at lw_m13 26 rfl) rfl
theorem q3018 : (Jvm.Cond.code ({ cls := "GridTableModel", name := "areaOf", desc := "(I)I" } : Jvm.MethodName) prog_40_method_13_code (2 : Nat) (Option.some Jvm.ClassFile.FieldType.int)) ∈ lw_all := lw_g (lw_at lw_m13 27 rfl) rfl
theorem q3019 : (Jvm.Cond.methodLink "GridTableModel" (99 : Nat) ({ cls := "GridTableModel", name := "signedArea", desc := "(I)I" } : Jvm.MethodName)) ∈ lw_all := lw_g (lw_at lw_m13 28 rfl) rfl
theorem q3020 : (Jvm.Cond.privateMethod ({ cls := "GridTableModel", name := "signedArea", desc := "(I)I" } : Jvm.MethodName)) ∈ lw_tbl := lw_at lw_m13 29 rfl
theorem q3021 : (Jvm.Cond.instanceMethod ({ cls := "GridTableModel", name := "signedArea", desc := "(I)I" } : Jvm.MethodName)) ∈ lw_all := lw_g (lw_at lw_m13 30 rfl) rfl
theorem q3022 : (Jvm.Cond.code ({ cls := "GridTableModel", name := "signedArea", desc := "(I)I" } : Jvm.MethodName) prog_40_method_12_code (6 : Nat) (Option.some Jvm.ClassFile.FieldType.int)) ∈ lw_all := lw_g (lw_at lw_m13 31 rfl) rfl
theorem q3023 : (Jvm.Cond.methodLink "GridTableModel" (95 : Nat) ({ cls := "GridTableModel", name := "cornerOf", desc := "(II)I" } : Jvm.MethodName)) ∈ lw_all := lw_g (lw_at lw_m13 32 rfl) rfl
theorem q3024 : (Jvm.Cond.privateMethod ({ cls := "GridTableModel", name := "cornerOf", desc := "(II)I" } : Jvm.MethodName)) ∈ lw_tbl := lw_at lw_m13 33 rfl
theorem q3025 : (Jvm.Cond.instanceMethod ({ cls := "GridTableModel", name := "cornerOf", desc := "(II)I" } : Jvm.MethodName)) ∈ lw_all := lw_g (lw_at lw_m13 34 rfl) rfl
theorem q3026 : (Jvm.Cond.code ({ cls := "GridTableModel", name := "cornerOf", desc := "(II)I" } : Jvm.MethodName) prog_40_method_9_code (3 : Nat) (Option.some Jvm.ClassFile.FieldType.int)) ∈ lw_all := lw_g (lw_at lw_m13 35 rfl) rfl
theorem q3027 : (Jvm.Cond.methodLink "GridTableModel" (103 : Nat) ({ cls := "java/lang/Math", name := "abs", desc := "(I)I" } : Jvm.MethodName)) ∈ lw_all := lw_g (lw_at lw_m13 36 rfl) rfl
theorem q3028 : (Jvm.Cond.methodLink "GridTableModel" (170 : Nat) ({ cls := "GridTableModel", name := "crossings", desc := "(II)I" } : Jvm.MethodName)) ∈ lw_all := lw_g (lw_at lw_m13 37 rfl) rfl
theorem q3029 : (Jvm.Cond.privateMethod ({ cls := "GridTableModel", name := "crossings", desc := "(II)I" } : Jvm.MethodName)) ∈ lw_tbl := lw_at lw_m13 38 rfl
theorem q3030 : (Jvm.Cond.instanceMethod ({ cls := "GridTableModel", name := "crossings", desc := "(II)I" } : Jvm.MethodName)) ∈ lw_all := lw_g (lw_at lw_m13 39 rfl) rfl
theorem q3031 : (Jvm.Cond.code ({ cls := "GridTableModel", name := "crossings", desc := "(II)I" } : Jvm.MethodName) prog_40_method_16_code (6 : Nat) (Option.some Jvm.ClassFile.FieldType.int)) ∈ lw_all := lw_g (lw_at lw_m13 40 rfl) rfl
theorem q3032 : (Jvm.Cond.methodLink "GridTableModel" (114 : Nat) ({ cls := "GridTableModel", name := "doCross", desc := "(IIII)Z" } : Jvm.MethodName)) ∈ lw_all := lw_g (lw_at lw_m13 41 rfl) rfl
theorem q3033 : (Jvm.Cond.privateMethod ({ cls := "GridTableModel", name := "doCross", desc := "(IIII)Z" } : Jvm.MethodName)) ∈ lw_tbl := lw_at lw_m13 42 rfl
theorem q3034 : (Jvm.Cond.instanceMethod ({ cls := "GridTableModel", name := "doCross", desc := "(IIII)Z" } : Jvm.MethodName)) ∈ lw_all := lw_g (lw_at lw_m13 43 rfl) rfl
theorem q3035 : (Jvm.Cond.code ({ cls := "GridTableModel", name := "doCross", desc := "(IIII)Z" } : Jvm.MethodName) prog_40_method_15_code (9 : Nat) (Option.some Jvm.ClassFile.FieldType.boolean)) ∈ lw_all := lw_g (lw_at lw_m13 44 rfl) rfl
theorem q3036 : (Jvm.Cond.methodLink "GridTableModel" (106 : Nat) ({ cls := "GridTableModel", name := "sideOf", desc := "(III)I" } : Jvm.MethodName)) ∈ lw_all := lw_g (lw_at lw_m13 45 rfl) rfl
theorem q3037 : (Jvm.Cond.privateMethod ({ cls := "GridTableModel", name := "sideOf", desc := "(III)I" } : Jvm.MethodName)) ∈ lw_tbl := lw_at lw_m13 46 rfl
theorem q3038 : (Jvm.Cond.instanceMethod ({ cls := "GridTableModel", name := "sideOf", desc := "(III)I" } : Jvm.MethodName)) ∈ lw_all := lw_g (lw_at lw_m13 47 rfl) rfl
theorem q3039 : (Jvm.Cond.code ({ cls := "GridTableModel", name := "sideOf", desc := "(III)I" } : Jvm.MethodName) prog_40_method_11_code (4 : Nat) (Option.some Jvm.ClassFile.FieldType.int)) ∈ lw_all := lw_g (lw_at lw_m13 48 rfl) rfl
theorem q3040 : (Jvm.Cond.methodLink "GridTableModel" (91 : Nat) ({ cls := "GridTableModel", name := "side", desc := "(IIII)I" } : Jvm.MethodName)) ∈ lw_all := lw_g (lw_at lw_m13 49 rfl) rfl
theorem q3041 : (Jvm.Cond.privateMethod ({ cls := "GridTableModel", name := "side", desc := "(IIII)I" } : Jvm.MethodName)) ∈ lw_tbl := lw_at lw_m13 50 rfl
theorem q3042 : (Jvm.Cond.instanceMethod ({ cls := "GridTableModel", name := "side", desc := "(IIII)I" } : Jvm.MethodName)) ∈ lw_all := lw_g (lw_at lw_m13 51 rfl) rfl
theorem q3043 : (Jvm.Cond.code ({ cls := "GridTableModel", name := "side", desc := "(IIII)I" } : Jvm.MethodName) prog_40_method_10_code (5 : Nat) (Option.some Jvm.ClassFile.FieldType.int)) ∈ lw_all := lw_g (lw_at lw_m13 52 rfl) rfl
theorem q3044 : (Jvm.Cond.methodLink "GridTableModel" (110 : Nat) ({ cls := "GridTableModel", name := "areApart", desc := "(II)Z" } : Jvm.MethodName)) ∈ lw_all := lw_g (lw_at lw_m13 53 rfl) rfl
theorem q3045 : (Jvm.Cond.static ({ cls := "GridTableModel", name := "areApart", desc := "(II)Z" } : Jvm.MethodName)) ∈ lw_all := lw_g (lw_at lw_m13 54 rfl) rfl
theorem q3046 : (Jvm.Cond.code ({ cls := "GridTableModel", name := "areApart", desc := "(II)Z" } : Jvm.MethodName) prog_40_method_14_code (2 : Nat) (Option.some Jvm.ClassFile.FieldType.boolean)) ∈ lw_all := lw_g (lw_at lw_m13 55 rfl) rfl
theorem q3047 : (Jvm.Cond.methodLink "GridTableModel" (118 : Nat) ({ cls := "java/lang/Math", name := "min", desc := "(II)I" } : Jvm.MethodName)) ∈ lw_all := lw_g (lw_at lw_m13 56 rfl) rfl
theorem q3048 : (Jvm.Cond.methodLink "GridTableModel" (120 : Nat) ({ cls := "java/lang/Math", name := "max", desc := "(II)I" } : Jvm.MethodName)) ∈ lw_all := lw_g (lw_at lw_m13 57 rfl) rfl
theorem q3049 : (Jvm.Cond.methodLink "GridTableModel" (182 : Nat) ({ cls := "GridTableModel", name := "held", desc := "(J)I" } : Jvm.MethodName)) ∈ lw_all := lw_g (lw_at lw_m13 58 rfl) rfl
theorem q3050 : (Jvm.Cond.static ({ cls := "GridTableModel", name := "held", desc := "(J)I" } : Jvm.MethodName)) ∈ lw_all := lw_g (lw_at lw_m13 59 rfl) rfl
theorem q3051 : (Jvm.Cond.code ({ cls := "GridTableModel", name := "held", desc := "(J)I" } : Jvm.MethodName) prog_40_method_5_code (2 : Nat) (Option.some Jvm.ClassFile.FieldType.int)) ∈ lw_all := lw_g (lw_at lw_m13 60 rfl) rfl
theorem q3052 : (Jvm.Cond.constantLong "GridTableModel" (53 : Nat) (-999 : Int64)) ∈ lw_all := lw_g (lw_at lw_m13 61 rfl) rfl
theorem q3053 : (Jvm.Cond.constantLong "GridTableModel" (55 : Nat) (999 : Int64)) ∈ lw_all := lw_g (lw_at lw_m13 62 rfl) rfl
theorem q3054 : (Jvm.Cond.methodLink "GridTableModel" (57 : Nat) ({ cls := "java/lang/Math", name := "min", desc := "(JJ)J" } : Jvm.MethodName)) ∈ lw_all := lw_g (lw_at lw_m13 63 rfl) rfl
theorem q3055 : (Jvm.Cond.methodLink "GridTableModel" (63 : Nat) ({ cls := "java/lang/Math", name := "max", desc := "(JJ)J" } : Jvm.MethodName)) ∈ lw_all := lw_g (lw_at lw_m13 64 rfl) rfl
theorem q3057 : (Jvm.Cond.instanceMethod ({ cls := "GridTableModel", name := "errorAt", desc := "()I" } : Jvm.MethodName)) ∈ lw_all := lw_g (lw_at lw_m13 66 rfl) rfl
theorem q3058 : (Jvm.Cond.selects "GridTableModel" ({ cls := "GridTableModel", name := "errorAt", desc := "()I" } : Jvm.MethodName) ({ cls := "GridTableModel", name := "errorAt", desc := "()I" } : Jvm.MethodName)) ∈ lw_all := lw_g (lw_at lw_m13 67 rfl) rfl
theorem q3059 : (Jvm.Cond.code ({ cls := "GridTableModel", name := "errorAt", desc := "()I" } : Jvm.MethodName) prog_40_method_75_code (1 : Nat) (Option.some Jvm.ClassFile.FieldType.int)) ∈ lw_all := lw_g (lw_at lw_m13 68 rfl) rfl
theorem q3061 : (Jvm.Cond.instanceMethod ({ cls := "GridTableModel", name := "count", desc := "(I)I" } : Jvm.MethodName)) ∈ lw_all := lw_g (lw_at lw_m13 70 rfl) rfl
theorem q3062 : (Jvm.Cond.selects "GridTableModel" ({ cls := "GridTableModel", name := "count", desc := "(I)I" } : Jvm.MethodName) ({ cls := "GridTableModel", name := "count", desc := "(I)I" } : Jvm.MethodName)) ∈ lw_all := lw_g (lw_at lw_m13 71 rfl) rfl
theorem q3063 : (Jvm.Cond.code ({ cls := "GridTableModel", name := "count", desc := "(I)I" } : Jvm.MethodName) prog_40_method_81_code (2 : Nat) (Option.some Jvm.ClassFile.FieldType.int)) ∈ lw_all := lw_g (lw_at lw_m13 72 rfl) rfl
theorem q3064 : (Jvm.Cond.methodLink "GridTableModel" (400 : Nat) ({ cls := "GridTableModel", name := "look", desc := "(LGridTableModel$Places;)V" } : Jvm.MethodName)) ∈ lw_all := lw_g (lw_at lw_m13 73 rfl) rfl
theorem q3065 : (Jvm.Cond.privateMethod ({ cls := "GridTableModel", name := "look", desc := "(LGridTableModel$Places;)V" } : Jvm.MethodName)) ∈ lw_tbl := lw_at lw_m13 74 rfl
theorem q3066 : (Jvm.Cond.instanceMethod ({ cls := "GridTableModel", name := "look", desc := "(LGridTableModel$Places;)V" } : Jvm.MethodName)) ∈ lw_all := lw_g (lw_at lw_m13 75 rfl) rfl
theorem q3067 : (Jvm.Cond.code ({ cls := "GridTableModel", name := "look", desc := "(LGridTableModel$Places;)V" } : Jvm.MethodName) prog_40_method_28_code (2 : Nat) (Option.none : Option Jvm.ClassFile.FieldType)) ∈ lw_all := lw_g (lw_at lw_m13 76 rfl) rfl
theorem q3068 : (Jvm.Cond.methodLink "GridTableModel" (403 : Nat) ({ cls := "GridTableModel", name := "counted", desc := "(I)I" } : Jvm.MethodName)) ∈ lw_all := lw_g (lw_at lw_m13 77 rfl) rfl
theorem q3069 : (Jvm.Cond.privateMethod ({ cls := "GridTableModel", name := "counted", desc := "(I)I" } : Jvm.MethodName)) ∈ lw_tbl := lw_at lw_m13 78 rfl
theorem q3070 : (Jvm.Cond.instanceMethod ({ cls := "GridTableModel", name := "counted", desc := "(I)I" } : Jvm.MethodName)) ∈ lw_all := lw_g (lw_at lw_m13 79 rfl) rfl
theorem q3071 : (Jvm.Cond.code ({ cls := "GridTableModel", name := "counted", desc := "(I)I" } : Jvm.MethodName) prog_40_method_80_code (2 : Nat) (Option.some Jvm.ClassFile.FieldType.int)) ∈ lw_all := lw_g (lw_at lw_m13 80 rfl) rfl
theorem q3072 : (Jvm.Cond.methodLink "GridTableModel" (391 : Nat) ({ cls := "GridTableModel", name := "areas", desc := "()I" } : Jvm.MethodName)) ∈ lw_all := lw_g (lw_at lw_m13 81 rfl) rfl
theorem q3073 : (Jvm.Cond.privateMethod ({ cls := "GridTableModel", name := "areas", desc := "()I" } : Jvm.MethodName)) ∈ lw_tbl := lw_at lw_m13 82 rfl
theorem q3074 : (Jvm.Cond.instanceMethod ({ cls := "GridTableModel", name := "areas", desc := "()I" } : Jvm.MethodName)) ∈ lw_all := lw_g (lw_at lw_m13 83 rfl) rfl
theorem q3075 : (Jvm.Cond.code ({ cls := "GridTableModel", name := "areas", desc := "()I" } : Jvm.MethodName) prog_40_method_76_code (3 : Nat) (Option.some Jvm.ClassFile.FieldType.int)) ∈ lw_all := lw_g (lw_at lw_m13 84 rfl) rfl
theorem q3076 : (Jvm.Cond.methodLink "GridTableModel" (394 : Nat) ({ cls := "GridTableModel", name := "allCrossings", desc := "()I" } : Jvm.MethodName)) ∈ lw_all := lw_g (lw_at lw_m13 85 rfl) rfl
theorem q3077 : (Jvm.Cond.privateMethod ({ cls := "GridTableModel", name := "allCrossings", desc := "()I" } : Jvm.MethodName)) ∈ lw_tbl := lw_at lw_m13 86 rfl
theorem q3078 : (Jvm.Cond.instanceMethod ({ cls := "GridTableModel", name := "allCrossings", desc := "()I" } : Jvm.MethodName)) ∈ lw_all := lw_g (lw_at lw_m13 87 rfl) rfl
theorem q3079 : (Jvm.Cond.code ({ cls := "GridTableModel", name := "allCrossings", desc := "()I" } : Jvm.MethodName) prog_40_method_77_code (4 : Nat) (Option.some Jvm.ClassFile.FieldType.int)) ∈ lw_all := lw_g (lw_at lw_m13 88 rfl) rfl
theorem q3080 : (Jvm.Cond.methodLink "GridTableModel" (397 : Nat) ({ cls := "GridTableModel", name := "insiders", desc := "()I" } : Jvm.MethodName)) ∈ lw_all := lw_g (lw_at lw_m13 89 rfl) rfl
theorem q3081 : (Jvm.Cond.privateMethod ({ cls := "GridTableModel", name := "insiders", desc := "()I" } : Jvm.MethodName)) ∈ lw_tbl := lw_at lw_m13 90 rfl
theorem q3082 : (Jvm.Cond.instanceMethod ({ cls := "GridTableModel", name := "insiders", desc := "()I" } : Jvm.MethodName)) ∈ lw_all := lw_g (lw_at lw_m13 91 rfl) rfl
theorem q3083 : (Jvm.Cond.code ({ cls := "GridTableModel", name := "insiders", desc := "()I" } : Jvm.MethodName) prog_40_method_79_code (3 : Nat) (Option.some Jvm.ClassFile.FieldType.int)) ∈ lw_all := lw_g (lw_at lw_m13 92 rfl) rfl
theorem q3084 : (Jvm.Cond.methodLink "GridTableModel" (388 : Nat) ({ cls := "GridTableModel", name := "shapesAround", desc := "(I)I" } : Jvm.MethodName)) ∈ lw_all := lw_g (lw_at lw_m13 93 rfl) rfl
theorem q3085 : (Jvm.Cond.privateMethod ({ cls := "GridTableModel", name := "shapesAround", desc := "(I)I" } : Jvm.MethodName)) ∈ lw_tbl := lw_at lw_m13 94 rfl
theorem q3086 : (Jvm.Cond.instanceMethod ({ cls := "GridTableModel", name := "shapesAround", desc := "(I)I" } : Jvm.MethodName)) ∈ lw_all := lw_g (lw_at lw_m13 95 rfl) rfl
theorem q3087 : (Jvm.Cond.code ({ cls := "GridTableModel", name := "shapesAround", desc := "(I)I" } : Jvm.MethodName) prog_40_method_78_code (4 : Nat) (Option.some Jvm.ClassFile.FieldType.int)) ∈ lw_all := lw_g (lw_at lw_m13 96 rfl) rfl
theorem q3088 : (Jvm.Cond.methodLink "GridTableModel" (155 : Nat) ({ cls := "GridTableModel", name := "liesOf", desc := "(II)I" } : Jvm.MethodName)) ∈ lw_all := lw_g (lw_at lw_m13 97 rfl) rfl
theorem q3089 : (Jvm.Cond.privateMethod ({ cls := "GridTableModel", name := "liesOf", desc := "(II)I" } : Jvm.MethodName)) ∈ lw_tbl := lw_at lw_m13 98 rfl
theorem q3090 : (Jvm.Cond.instanceMethod ({ cls := "GridTableModel", name := "liesOf", desc := "(II)I" } : Jvm.MethodName)) ∈ lw_all := lw_g (lw_at lw_m13 99 rfl) rfl
theorem q3091 : (Jvm.Cond.code ({ cls := "GridTableModel", name := "liesOf", desc := "(II)I" } : Jvm.MethodName) prog_40_method_19_code (3 : Nat) (Option.some Jvm.ClassFile.FieldType.int)) ∈ lw_all := lw_g (lw_at lw_m13 100 rfl) rfl
theorem q3092 : (Jvm.Cond.methodLink "GridTableModel" (125 : Nat) ({ cls := "GridTableModel", name := "liesAt", desc := "(III)I" } : Jvm.MethodName)) ∈ lw_all := lw_g (lw_at lw_m13 101 rfl) rfl
theorem q3093 : (Jvm.Cond.privateMethod ({ cls := "GridTableModel", name := "liesAt", desc := "(III)I" } : Jvm.MethodName)) ∈ lw_tbl := lw_at lw_m13 102 rfl
theorem q3094 : (Jvm.Cond.instanceMethod ({ cls := "GridTableModel", name := "liesAt", desc := "(III)I" } : Jvm.MethodName)) ∈ lw_all := lw_g (lw_at lw_m13 103 rfl) rfl
theorem q3095 : (Jvm.Cond.code ({ cls := "GridTableModel", name := "liesAt", desc := "(III)I" } : Jvm.MethodName) prog_40_method_18_code (11 : Nat) (Option.some Jvm.ClassFile.FieldType.int)) ∈ lw_all := lw_g (lw_at lw_m13 104 rfl) rfl
theorem q3096 : (Jvm.Cond.methodLink "GridTableModel" (122 : Nat) ({ cls := "GridTableModel", name := "isBetween", desc := "(III)Z" } : Jvm.MethodName)) ∈ lw_all := lw_g (lw_at lw_m13 105 rfl) rfl
theorem q3097 : (Jvm.Cond.privateMethod ({ cls := "GridTableModel", name := "isBetween", desc := "(III)Z" } : Jvm.MethodName)) ∈ lw_tbl := lw_at lw_m13 106 rfl
theorem q3098 : (Jvm.Cond.instanceMethod ({ cls := "GridTableModel", name := "isBetween", desc := "(III)Z" } : Jvm.MethodName)) ∈ lw_all := lw_g (lw_at lw_m13 107 rfl) rfl
theorem q3099 : (Jvm.Cond.code ({ cls := "GridTableModel", name := "isBetween", desc := "(III)Z" } : Jvm.MethodName) prog_40_method_17_code (4 : Nat) (Option.some Jvm.ClassFile.FieldType.boolean)) ∈ lw_all := lw_g (lw_at lw_m13 108 rfl) rfl
theorem q3101 : (Jvm.Cond.instanceMethod ({ cls := "GridTableModel", name := "point", desc := "(II)I" } : Jvm.MethodName)) ∈ lw_all := lw_g (lw_at lw_m13 110 rfl) rfl
theorem q3102 : (Jvm.Cond.selects "GridTableModel" ({ cls := "GridTableModel", name := "point", desc := "(II)I" } : Jvm.MethodName) ({ cls := "GridTableModel", name := "point", desc := "(II)I" } : Jvm.MethodName)) ∈ lw_all := lw_g (lw_at lw_m13 111 rfl) rfl
theorem q3103 : (Jvm.Cond.code ({ cls := "GridTableModel", name := "point", desc := "(II)I" } : Jvm.MethodName) prog_40_method_84_code (3 : Nat) (Option.some Jvm.ClassFile.FieldType.int)) ∈ lw_all := lw_g (lw_at lw_m13 112 rfl) rfl
theorem q3104 : (Jvm.Cond.methodLink "GridTableModel" (409 : Nat) ({ cls := "GridTableModel", name := "isPoint", desc := "(I)Z" } : Jvm.MethodName)) ∈ lw_all := lw_g (lw_at lw_m13 113 rfl) rfl
theorem q3105 : (Jvm.Cond.privateMethod ({ cls := "GridTableModel", name := "isPoint", desc := "(I)Z" } : Jvm.MethodName)) ∈ lw_tbl := lw_at lw_m13 114 rfl
theorem q3106 : (Jvm.Cond.instanceMethod ({ cls := "GridTableModel", name := "isPoint", desc := "(I)Z" } : Jvm.MethodName)) ∈ lw_all := lw_g (lw_at lw_m13 115 rfl) rfl
theorem q3107 : (Jvm.Cond.code ({ cls := "GridTableModel", name := "isPoint", desc := "(I)Z" } : Jvm.MethodName) prog_40_method_6_code (2 : Nat) (Option.some Jvm.ClassFile.FieldType.boolean)) ∈ lw_all := lw_g (lw_at lw_m13 116 rfl) rfl
theorem q3108 : (Jvm.Cond.methodLink "GridTableModel" (412 : Nat) ({ cls := "GridTableModel", name := "pointTold", desc := "(II)I" } : Jvm.MethodName)) ∈ lw_all := lw_g (lw_at lw_m13 117 rfl) rfl
theorem q3109 : (Jvm.Cond.privateMethod ({ cls := "GridTableModel", name := "pointTold", desc := "(II)I" } : Jvm.MethodName)) ∈ lw_tbl := lw_at lw_m13 118 rfl
theorem q3110 : (Jvm.Cond.instanceMethod ({ cls := "GridTableModel", name := "pointTold", desc := "(II)I" } : Jvm.MethodName)) ∈ lw_all := lw_g (lw_at lw_m13 119 rfl) rfl
theorem q3111 : (Jvm.Cond.code ({ cls := "GridTableModel", name := "pointTold", desc := "(II)I" } : Jvm.MethodName) prog_40_method_83_code (3 : Nat) (Option.some Jvm.ClassFile.FieldType.int)) ∈ lw_all := lw_g (lw_at lw_m13 120 rfl) rfl
theorem q3112 : (Jvm.Cond.methodLink "GridTableModel" (406 : Nat) ({ cls := "GridTableModel", name := "cornersAt", desc := "(I)I" } : Jvm.MethodName)) ∈ lw_all := lw_g (lw_at lw_m13 121 rfl) rfl
theorem q3113 : (Jvm.Cond.privateMethod ({ cls := "GridTableModel", name := "cornersAt", desc := "(I)I" } : Jvm.MethodName)) ∈ lw_tbl := lw_at lw_m13 122 rfl
theorem q3114 : (Jvm.Cond.instanceMethod ({ cls := "GridTableModel", name := "cornersAt", desc := "(I)I" } : Jvm.MethodName)) ∈ lw_all := lw_g (lw_at lw_m13 123 rfl) rfl
theorem q3115 : (Jvm.Cond.code ({ cls := "GridTableModel", name := "cornersAt", desc := "(I)I" } : Jvm.MethodName) prog_40_method_82_code (5 : Nat) (Option.some Jvm.ClassFile.FieldType.int)) ∈ lw_all := lw_g (lw_at lw_m13 124 rfl) rfl
theorem q3117 : (Jvm.Cond.instanceMethod ({ cls := "GridTableModel", name := "shape", desc := "(II)I" } : Jvm.MethodName)) ∈ lw_all := lw_g (lw_at lw_m13 126 rfl) rfl
theorem q3118 : (Jvm.Cond.selects "GridTableModel" ({ cls := "GridTableModel", name := "shape", desc := "(II)I" } : Jvm.MethodName) ({ cls := "GridTableModel", name := "shape", desc := "(II)I" } : Jvm.MethodName)) ∈ lw_all := lw_g (lw_at lw_m13 127 rfl) rfl
theorem q3119 : (Jvm.Cond.code ({ cls := "GridTableModel", name := "shape", desc := "(II)I" } : Jvm.MethodName) prog_40_method_89_code (3 : Nat) (Option.some Jvm.ClassFile.FieldType.int)) ∈ lw_all := lw_g (lw_at lw_m13 128 rfl) rfl
theorem q3120 : (Jvm.Cond.methodLink "GridTableModel" (429 : Nat) ({ cls := "GridTableModel", name := "isShape", desc := "(I)Z" } : Jvm.MethodName)) ∈ lw_all := lw_g (lw_at lw_m13 129 rfl) rfl
theorem q3121 : (Jvm.Cond.privateMethod ({ cls := "GridTableModel", name := "isShape", desc := "(I)Z" } : Jvm.MethodName)) ∈ lw_tbl := lw_at lw_m13 130 rfl
theorem q3122 : (Jvm.Cond.instanceMethod ({ cls := "GridTableModel", name := "isShape", desc := "(I)Z" } : Jvm.MethodName)) ∈ lw_all := lw_g (lw_at lw_m13 131 rfl) rfl
theorem q3123 : (Jvm.Cond.code ({ cls := "GridTableModel", name := "isShape", desc := "(I)Z" } : Jvm.MethodName) prog_40_method_7_code (2 : Nat) (Option.some Jvm.ClassFile.FieldType.boolean)) ∈ lw_all := lw_g (lw_at lw_m13 132 rfl) rfl
theorem q3124 : (Jvm.Cond.methodLink "GridTableModel" (432 : Nat) ({ cls := "GridTableModel", name := "shapeTold", desc := "(II)I" } : Jvm.MethodName)) ∈ lw_all := lw_g (lw_at lw_m13 133 rfl) rfl
theorem q3125 : (Jvm.Cond.privateMethod ({ cls := "GridTableModel", name := "shapeTold", desc := "(II)I" } : Jvm.MethodName)) ∈ lw_tbl := lw_at lw_m13 134 rfl
theorem q3126 : (Jvm.Cond.instanceMethod ({ cls := "GridTableModel", name := "shapeTold", desc := "(II)I" } : Jvm.MethodName)) ∈ lw_all := lw_g (lw_at lw_m13 135 rfl) rfl
theorem q3127 : (Jvm.Cond.code ({ cls := "GridTableModel", name := "shapeTold", desc := "(II)I" } : Jvm.MethodName) prog_40_method_88_code (3 : Nat) (Option.some Jvm.ClassFile.FieldType.int)) ∈ lw_all := lw_g (lw_at lw_m13 136 rfl) rfl
theorem q3128 : (Jvm.Cond.methodLink "GridTableModel" (418 : Nat) ({ cls := "java/lang/Integer", name := "signum", desc := "(I)I" } : Jvm.MethodName)) ∈ lw_all := lw_g (lw_at lw_m13 137 rfl) rfl
theorem q3129 : (Jvm.Cond.methodLink "GridTableModel" (423 : Nat) ({ cls := "GridTableModel", name := "gridPoints", desc := "(I)I" } : Jvm.MethodName)) ∈ lw_all := lw_g (lw_at lw_m13 138 rfl) rfl
theorem q3130 : (Jvm.Cond.privateMethod ({ cls := "GridTableModel", name := "gridPoints", desc := "(I)I" } : Jvm.MethodName)) ∈ lw_tbl := lw_at lw_m13 139 rfl
theorem q3131 : (Jvm.Cond.instanceMethod ({ cls := "GridTableModel", name := "gridPoints", desc := "(I)I" } : Jvm.MethodName)) ∈ lw_all := lw_g (lw_at lw_m13 140 rfl) rfl
theorem q3132 : (Jvm.Cond.code ({ cls := "GridTableModel", name := "gridPoints", desc := "(I)I" } : Jvm.MethodName) prog_40_method_86_code (6 : Nat) (Option.some Jvm.ClassFile.FieldType.int)) ∈ lw_all := lw_g (lw_at lw_m13 141 rfl) rfl
theorem q3133 : (Jvm.Cond.methodLink "GridTableModel" (415 : Nat) ({ cls := "GridTableModel", name := "divisor", desc := "(II)I" } : Jvm.MethodName)) ∈ lw_all := lw_g (lw_at lw_m13 142 rfl) rfl
theorem q3134 : (Jvm.Cond.static ({ cls := "GridTableModel", name := "divisor", desc := "(II)I" } : Jvm.MethodName)) ∈ lw_all := lw_g (lw_at lw_m13 143 rfl) rfl
theorem q3135 : (Jvm.Cond.code ({ cls := "GridTableModel", name := "divisor", desc := "(II)I" } : Jvm.MethodName) prog_40_method_85_code (2 : Nat) (Option.some Jvm.ClassFile.FieldType.int)) ∈ lw_all := lw_g (lw_at lw_m13 144 rfl) rfl
theorem q3136 : (Jvm.Cond.methodLink "GridTableModel" (426 : Nat) ({ cls := "GridTableModel", name := "neverRight", desc := "(I)I" } : Jvm.MethodName)) ∈ lw_all := lw_g (lw_at lw_m13 145 rfl) rfl
theorem q3137 : (Jvm.Cond.privateMethod ({ cls := "GridTableModel", name := "neverRight", desc := "(I)I" } : Jvm.MethodName)) ∈ lw_tbl := lw_at lw_m13 146 rfl
theorem q3138 : (Jvm.Cond.instanceMethod ({ cls := "GridTableModel", name := "neverRight", desc := "(I)I" } : Jvm.MethodName)) ∈ lw_all := lw_g (lw_at lw_m13 147 rfl) rfl
theorem q3139 : (Jvm.Cond.code ({ cls := "GridTableModel", name := "neverRight", desc := "(I)I" } : Jvm.MethodName) prog_40_method_87_code (3 : Nat) (Option.some Jvm.ClassFile.FieldType.int)) ∈ lw_all := lw_g (lw_at lw_m13 148 rfl) rfl
theorem q3141 : (Jvm.Cond.instanceMethod ({ cls := "GridTableModel", name := "corner", desc := "(II)I" } : Jvm.MethodName)) ∈ lw_all := lw_g (lw_at lw_m13 150 rfl) rfl
theorem q3142 : (Jvm.Cond.selects "GridTableModel" ({ cls := "GridTableModel", name := "corner", desc := "(II)I" } : Jvm.MethodName) ({ cls := "GridTableModel", name := "corner", desc := "(II)I" } : Jvm.MethodName)) ∈ lw_all := lw_g (lw_at lw_m13 151 rfl) rfl
theorem q3143 : (Jvm.Cond.code ({ cls := "GridTableModel", name := "corner", desc := "(II)I" } : Jvm.MethodName) prog_40_method_90_code (3 : Nat) (Option.some Jvm.ClassFile.FieldType.int)) ∈ lw_all := lw_g (lw_at lw_m13 152 rfl) rfl
theorem q3145 : (Jvm.Cond.instanceMethod ({ cls := "GridTableModel", name := "lies", desc := "(II)I" } : Jvm.MethodName)) ∈ lw_all := lw_g (lw_at lw_m13 154 rfl) rfl
theorem q3146 : (Jvm.Cond.selects "GridTableModel" ({ cls := "GridTableModel", name := "lies", desc := "(II)I" } : Jvm.MethodName) ({ cls := "GridTableModel", name := "lies", desc := "(II)I" } : Jvm.MethodName)) ∈ lw_all := lw_g (lw_at lw_m13 155 rfl) rfl
theorem q3147 : (Jvm.Cond.code ({ cls := "GridTableModel", name := "lies", desc := "(II)I" } : Jvm.MethodName) prog_40_method_91_code (3 : Nat) (Option.some Jvm.ClassFile.FieldType.int)) ∈ lw_all := lw_g (lw_at lw_m13 156 rfl) rfl
theorem q3149 : (Jvm.Cond.instanceMethod ({ cls := "GridTableModel", name := "crosses", desc := "(II)I" } : Jvm.MethodName)) ∈ lw_all := lw_g (lw_at lw_m13 158 rfl) rfl
theorem q3150 : (Jvm.Cond.selects "GridTableModel" ({ cls := "GridTableModel", name := "crosses", desc := "(II)I" } : Jvm.MethodName) ({ cls := "GridTableModel", name := "crosses", desc := "(II)I" } : Jvm.MethodName)) ∈ lw_all := lw_g (lw_at lw_m13 159 rfl) rfl
theorem q3151 : (Jvm.Cond.code ({ cls := "GridTableModel", name := "crosses", desc := "(II)I" } : Jvm.MethodName) prog_40_method_92_code (3 : Nat) (Option.some Jvm.ClassFile.FieldType.int)) ∈ lw_all := lw_g (lw_at lw_m13 160 rfl) rfl
theorem q3153 : (Jvm.Cond.instanceMethod ({ cls := "GridTableModel", name := "hull", desc := "(II)I" } : Jvm.MethodName)) ∈ lw_all := lw_g (lw_at lw_m13 162 rfl) rfl
theorem q3154 : (Jvm.Cond.selects "GridTableModel" ({ cls := "GridTableModel", name := "hull", desc := "(II)I" } : Jvm.MethodName) ({ cls := "GridTableModel", name := "hull", desc := "(II)I" } : Jvm.MethodName)) ∈ lw_all := lw_g (lw_at lw_m13 163 rfl) rfl
theorem q3155 : (Jvm.Cond.code ({ cls := "GridTableModel", name := "hull", desc := "(II)I" } : Jvm.MethodName) prog_40_method_93_code (3 : Nat) (Option.some Jvm.ClassFile.FieldType.int)) ∈ lw_all := lw_g (lw_at lw_m13 164 rfl) rfl
theorem q3156 : (Jvm.Cond.methodLink "GridTableModel" (435 : Nat) ({ cls := "GridTableModel", name := "hullTold", desc := "(II)I" } : Jvm.MethodName)) ∈ lw_all := lw_g (lw_at lw_m13 165 rfl) rfl
theorem q3157 : (Jvm.Cond.privateMethod ({ cls := "GridTableModel", name := "hullTold", desc := "(II)I" } : Jvm.MethodName)) ∈ lw_tbl := lw_at lw_m13 166 rfl
theorem q3158 : (Jvm.Cond.instanceMethod ({ cls := "GridTableModel", name := "hullTold", desc := "(II)I" } : Jvm.MethodName)) ∈ lw_all := lw_g (lw_at lw_m13 167 rfl) rfl
theorem q3159 : (Jvm.Cond.code ({ cls := "GridTableModel", name := "hullTold", desc := "(II)I" } : Jvm.MethodName) prog_40_method_41_code (3 : Nat) (Option.some Jvm.ClassFile.FieldType.int)) ∈ lw_all := lw_g (lw_at lw_m13 168 rfl) rfl
theorem q3160 : (Jvm.Cond.methodLink "GridTableModel" (214 : Nat) ({ cls := "GridTableModel", name := "wrap", desc := "(I)V" } : Jvm.MethodName)) ∈ lw_all := lw_g (lw_at lw_m13 169 rfl) rfl
theorem q3161 : (Jvm.Cond.privateMethod ({ cls := "GridTableModel", name := "wrap", desc := "(I)V" } : Jvm.MethodName)) ∈ lw_tbl := lw_at lw_m13 170 rfl
theorem q3162 : (Jvm.Cond.instanceMethod ({ cls := "GridTableModel", name := "wrap", desc := "(I)V" } : Jvm.MethodName)) ∈ lw_all := lw_g (lw_at lw_m13 171 rfl) rfl
theorem q3163 : (Jvm.Cond.code ({ cls := "GridTableModel", name := "wrap", desc := "(I)V" } : Jvm.MethodName) prog_40_method_36_code (4 : Nat) (Option.none : Option Jvm.ClassFile.FieldType)) ∈ lw_all := lw_g (lw_at lw_m13 172 rfl) rfl
theorem q3164 : (Jvm.Cond.methodLink "GridTableModel" (199 : Nat) ({ cls := "GridTableModel", name := "isEarlier", desc := "(II)Z" } : Jvm.MethodName)) ∈ lw_all := lw_g (lw_at lw_m13 173 rfl) rfl
theorem q3165 : (Jvm.Cond.privateMethod ({ cls := "GridTableModel", name := "isEarlier", desc := "(II)Z" } : Jvm.MethodName)) ∈ lw_tbl := lw_at lw_m13 174 rfl
theorem q3166 : (Jvm.Cond.instanceMethod ({ cls := "GridTableModel", name := "isEarlier", desc := "(II)Z" } : Jvm.MethodName)) ∈ lw_all := lw_g (lw_at lw_m13 175 rfl) rfl
theorem q3167 : (Jvm.Cond.code ({ cls := "GridTableModel", name := "isEarlier", desc := "(II)Z" } : Jvm.MethodName) prog_40_method_34_code (3 : Nat) (Option.some Jvm.ClassFile.FieldType.boolean)) ∈ lw_all := lw_g (lw_at lw_m13 176 rfl) rfl
theorem q3168 : (Jvm.Cond.methodLink "GridTableModel" (205 : Nat) ({ cls := "GridTableModel", name := "nextOf", desc := "(II)I" } : Jvm.MethodName)) ∈ lw_all := lw_g (lw_at lw_m13 177 rfl) rfl
theorem q3169 : (Jvm.Cond.privateMethod ({ cls := "GridTableModel", name := "nextOf", desc := "(II)I" } : Jvm.MethodName)) ∈ lw_tbl := lw_at lw_m13 178 rfl
theorem q3170 : (Jvm.Cond.instanceMethod ({ cls := "GridTableModel", name := "nextOf", desc := "(II)I" } : Jvm.MethodName)) ∈ lw_all := lw_g (lw_at lw_m13 179 rfl) rfl
theorem q3171 : (Jvm.Cond.code ({ cls := "GridTableModel", name := "nextOf", desc := "(II)I" } : Jvm.MethodName) prog_40_method_37_code (9 : Nat) (Option.some Jvm.ClassFile.FieldType.int)) ∈ lw_all := lw_g (lw_at lw_m13 180 rfl) rfl
theorem q3172 : (Jvm.Cond.methodLink "GridTableModel" (208 : Nat) ({ cls := "GridTableModel", name := "areSame", desc := "(II)Z" } : Jvm.MethodName)) ∈ lw_all := lw_g (lw_at lw_m13 181 rfl) rfl
theorem q3173 : (Jvm.Cond.privateMethod ({ cls := "GridTableModel", name := "areSame", desc := "(II)Z" } : Jvm.MethodName)) ∈ lw_tbl := lw_at lw_m13 182 rfl
theorem q3174 : (Jvm.Cond.instanceMethod ({ cls := "GridTableModel", name := "areSame", desc := "(II)Z" } : Jvm.MethodName)) ∈ lw_all := lw_g (lw_at lw_m13 183 rfl) rfl
theorem q3175 : (Jvm.Cond.code ({ cls := "GridTableModel", name := "areSame", desc := "(II)Z" } : Jvm.MethodName) prog_40_method_35_code (3 : Nat) (Option.some Jvm.ClassFile.FieldType.boolean)) ∈ lw_all := lw_g (lw_at lw_m13 184 rfl) rfl
theorem q3176 : (Jvm.Cond.methodLink "GridTableModel" (211 : Nat) ({ cls := "GridTableModel", name := "square", desc := "(II)I" } : Jvm.MethodName)) ∈ lw_all := lw_g (lw_at lw_m13 185 rfl) rfl
theorem q3177 : (Jvm.Cond.privateMethod ({ cls := "GridTableModel", name := "square", desc := "(II)I" } : Jvm.MethodName)) ∈ lw_tbl := lw_at lw_m13 186 rfl
theorem q3178 : (Jvm.Cond.instanceMethod ({ cls := "GridTableModel", name := "square", desc := "(II)I" } : Jvm.MethodName)) ∈ lw_all := lw_g (lw_at lw_m13 187 rfl) rfl
theorem q3179 : (Jvm.Cond.code ({ cls := "GridTableModel", name := "square", desc := "(II)I" } : Jvm.MethodName) prog_40_method_38_code (3 : Nat) (Option.some Jvm.ClassFile.FieldType.int)) ∈ lw_all := lw_g (lw_at lw_m13 188 rfl) rfl
theorem q3180 : (Jvm.Cond.methodLink "GridTableModel" (218 : Nat) ({ cls := "GridTableModel", name := "hullArea", desc := "()I" } : Jvm.MethodName)) ∈ lw_all := lw_g (lw_at lw_m13 189 rfl) rfl
theorem q3181 : (Jvm.Cond.privateMethod ({ cls := "GridTableModel", name := "hullArea", desc := "()I" } : Jvm.MethodName)) ∈ lw_tbl := lw_at lw_m13 190 rfl
theorem q3182 : (Jvm.Cond.instanceMethod ({ cls := "GridTableModel", name := "hullArea", desc := "()I" } : Jvm.MethodName)) ∈ lw_all := lw_g (lw_at lw_m13 191 rfl) rfl
theorem q3183 : (Jvm.Cond.code ({ cls := "GridTableModel", name := "hullArea", desc := "()I" } : Jvm.MethodName) prog_40_method_39_code (5 : Nat) (Option.some Jvm.ClassFile.FieldType.int)) ∈ lw_all := lw_g (lw_at lw_m13 192 rfl) rfl
theorem q3184 : (Jvm.Cond.methodLink "GridTableModel" (221 : Nat) ({ cls := "GridTableModel", name := "widest", desc := "(I)I" } : Jvm.MethodName)) ∈ lw_all := lw_g (lw_at lw_m13 193 rfl) rfl
theorem q3185 : (Jvm.Cond.privateMethod ({ cls := "GridTableModel", name := "widest", desc := "(I)I" } : Jvm.MethodName)) ∈ lw_tbl := lw_at lw_m13 194 rfl
theorem q3186 : (Jvm.Cond.instanceMethod ({ cls := "GridTableModel", name := "widest", desc := "(I)I" } : Jvm.MethodName)) ∈ lw_all := lw_g (lw_at lw_m13 195 rfl) rfl
theorem q3187 : (Jvm.Cond.code ({ cls := "GridTableModel", name := "widest", desc := "(I)I" } : Jvm.MethodName) prog_40_method_40_code (5 : Nat) (Option.some Jvm.ClassFile.FieldType.int)) ∈ lw_all := lw_g (lw_at lw_m13 196 rfl) rfl
theorem q3189 : (Jvm.Cond.instanceMethod ({ cls := "GridTableModel", name := "hullCorner", desc := "(II)I" } : Jvm.MethodName)) ∈ lw_all := lw_g (lw_at lw_m13 198 rfl) rfl
theorem q3190 : (Jvm.Cond.selects "GridTableModel" ({ cls := "GridTableModel", name := "hullCorner", desc := "(II)I" } : Jvm.MethodName) ({ cls := "GridTableModel", name := "hullCorner", desc := "(II)I" } : Jvm.MethodName)) ∈ lw_all := lw_g (lw_at lw_m13 199 rfl) rfl
theorem q3191 : (Jvm.Cond.code ({ cls := "GridTableModel", name := "hullCorner", desc := "(II)I" } : Jvm.MethodName) prog_40_method_94_code (3 : Nat) (Option.some Jvm.ClassFile.FieldType.int)) ∈ lw_all := lw_g (lw_at lw_m13 200 rfl) rfl
theorem q3193 : (Jvm.Cond.instanceMethod ({ cls := "GridTableModel", name := "nearest", desc := "(II)I" } : Jvm.MethodName)) ∈ lw_all := lw_g (lw_at lw_m13 202 rfl) rfl
theorem q3194 : (Jvm.Cond.selects "GridTableModel" ({ cls := "GridTableModel", name := "nearest", desc := "(II)I" } : Jvm.MethodName) ({ cls := "GridTableModel", name := "nearest", desc := "(II)I" } : Jvm.MethodName)) ∈ lw_all := lw_g (lw_at lw_m13 203 rfl) rfl
theorem q3195 : (Jvm.Cond.code ({ cls := "GridTableModel", name := "nearest", desc := "(II)I" } : Jvm.MethodName) prog_40_method_95_code (7 : Nat) (Option.some Jvm.ClassFile.FieldType.int)) ∈ lw_all := lw_g (lw_at lw_m13 204 rfl) rfl
theorem q3197 : (Jvm.Cond.instanceMethod ({ cls := "GridTableModel", name := "enter", desc := "(II)I" } : Jvm.MethodName)) ∈ lw_all := lw_g (lw_at lw_m13 206 rfl) rfl
theorem q3198 : (Jvm.Cond.selects "GridTableModel" ({ cls := "GridTableModel", name := "enter", desc := "(II)I" } : Jvm.MethodName) ({ cls := "GridTableModel", name := "enter", desc := "(II)I" } : Jvm.MethodName)) ∈ lw_all := lw_g (lw_at lw_m13 207 rfl) rfl
theorem q3199 : (Jvm.Cond.code ({ cls := "GridTableModel", name := "enter", desc := "(II)I" } : Jvm.MethodName) prog_40_method_97_code (4 : Nat) (Option.some Jvm.ClassFile.FieldType.int)) ∈ lw_all := lw_g (lw_at lw_m13 208 rfl) rfl
theorem q3200 : (Jvm.Cond.methodLink "GridTableModel" (438 : Nat) ({ cls := "GridTableModel", name := "entersBy", desc := "(III)Z" } : Jvm.MethodName)) ∈ lw_all := lw_g (lw_at lw_m13 209 rfl) rfl
theorem q3201 : (Jvm.Cond.privateMethod ({ cls := "GridTableModel", name := "entersBy", desc := "(III)Z" } : Jvm.MethodName)) ∈ lw_tbl := lw_at lw_m13 210 rfl
theorem q3202 : (Jvm.Cond.instanceMethod ({ cls := "GridTableModel", name := "entersBy", desc := "(III)Z" } : Jvm.MethodName)) ∈ lw_all := lw_g (lw_at lw_m13 211 rfl) rfl
theorem q3203 : (Jvm.Cond.code ({ cls := "GridTableModel", name := "entersBy", desc := "(III)Z" } : Jvm.MethodName) prog_40_method_96_code (6 : Nat) (Option.some Jvm.ClassFile.FieldType.boolean)) ∈ lw_all := lw_g (lw_at lw_m13 212 rfl) rfl
theorem q3205 : (Jvm.Cond.instanceMethod ({ cls := "GridTableModel", name := "put", desc := "(III)I" } : Jvm.MethodName)) ∈ lw_all := lw_g (lw_at lw_m13 214 rfl) rfl
theorem q3206 : (Jvm.Cond.selects "GridTableModel" ({ cls := "GridTableModel", name := "put", desc := "(III)I" } : Jvm.MethodName) ({ cls := "GridTableModel", name := "put", desc := "(III)I" } : Jvm.MethodName)) ∈ lw_all := lw_g (lw_at lw_m13 215 rfl) rfl
theorem q3207 : (Jvm.Cond.code ({ cls := "GridTableModel", name := "put", desc := "(III)I" } : Jvm.MethodName) prog_40_method_98_code (6 : Nat) (Option.some Jvm.ClassFile.FieldType.int)) ∈ lw_all := lw_g (lw_at lw_m13 216 rfl) rfl
theorem q3208 : (Jvm.Cond.methodLink "GridTableModel" (441 : Nat) ({ cls := "GridTableModel", name := "keep", desc := "(LGridTableModel$Places;)V" } : Jvm.MethodName)) ∈ lw_all := lw_g (lw_at lw_m13 217 rfl) rfl
theorem q3209 : (Jvm.Cond.privateMethod ({ cls := "GridTableModel", name := "keep", desc := "(LGridTableModel$Places;)V" } : Jvm.MethodName)) ∈ lw_tbl := lw_at lw_m13 218 rfl
theorem q3210 : (Jvm.Cond.instanceMethod ({ cls := "GridTableModel", name := "keep", desc := "(LGridTableModel$Places;)V" } : Jvm.MethodName)) ∈ lw_all := lw_g (lw_at lw_m13 219 rfl) rfl
theorem q3211 : (Jvm.Cond.code ({ cls := "GridTableModel", name := "keep", desc := "(LGridTableModel$Places;)V" } : Jvm.MethodName) prog_40_method_33_code (2 : Nat) (Option.none : Option Jvm.ClassFile.FieldType)) ∈ lw_all := lw_g (lw_at lw_m13 220 rfl) rfl
theorem q3212 : (Jvm.Cond.methodLink "GridTableModel" (195 : Nat) ({ cls := "GridTableModel$Places", name := "become", desc := "(LGridTableModel$Places;)V" } : Jvm.MethodName)) ∈ lw_all := lw_g (lw_at lw_m13 221 rfl) rfl
theorem q3218 : (Jvm.Cond.instanceMethod ({ cls := "GridTableModel", name := "carry", desc := "(I)Z" } : Jvm.MethodName)) ∈ lw_all := lw_g (lw_at lw_m13 227 rfl) rfl
theorem q3219 : (Jvm.Cond.selects "GridTableModel" ({ cls := "GridTableModel", name := "carry", desc := "(I)Z" } : Jvm.MethodName) ({ cls := "GridTableModel", name := "carry", desc := "(I)Z" } : Jvm.MethodName)) ∈ lw_all := lw_g (lw_at lw_m13 228 rfl) rfl
theorem q3220 : (Jvm.Cond.code ({ cls := "GridTableModel", name := "carry", desc := "(I)Z" } : Jvm.MethodName) prog_40_method_99_code (2 : Nat) (Option.some Jvm.ClassFile.FieldType.boolean)) ∈ lw_all := lw_g (lw_at lw_m13 229 rfl) rfl
theorem q3221 : (Jvm.Cond.methodLink "GridTableModel" (444 : Nat) ({ cls := "GridTableModel", name := "isStep", desc := "(I)Z" } : Jvm.MethodName)) ∈ lw_all := lw_g (lw_at lw_m13 230 rfl) rfl
theorem q3222 : (Jvm.Cond.privateMethod ({ cls := "GridTableModel", name := "isStep", desc := "(I)Z" } : Jvm.MethodName)) ∈ lw_tbl := lw_at lw_m13 231 rfl
theorem q3223 : (Jvm.Cond.instanceMethod ({ cls := "GridTableModel", name := "isStep", desc := "(I)Z" } : Jvm.MethodName)) ∈ lw_all := lw_g (lw_at lw_m13 232 rfl) rfl
theorem q3224 : (Jvm.Cond.code ({ cls := "GridTableModel", name := "isStep", desc := "(I)Z" } : Jvm.MethodName) prog_40_method_8_code (2 : Nat) (Option.some Jvm.ClassFile.FieldType.boolean)) ∈ lw_all := lw_g (lw_at lw_m13 233 rfl) rfl
theorem q3225 : (Jvm.Cond.methodLink "GridTableModel" (186 : Nat) ({ cls := "GridTableModel", name := "go", desc := "(I)Z" } : Jvm.MethodName)) ∈ lw_all := lw_g (lw_at lw_m13 234 rfl) rfl
theorem q3226 : (Jvm.Cond.privateMethod ({ cls := "GridTableModel", name := "go", desc := "(I)Z" } : Jvm.MethodName)) ∈ lw_tbl := lw_at lw_m13 235 rfl
theorem q3227 : (Jvm.Cond.instanceMethod ({ cls := "GridTableModel", name := "go", desc := "(I)Z" } : Jvm.MethodName)) ∈ lw_all := lw_g (lw_at lw_m13 236 rfl) rfl
theorem q3228 : (Jvm.Cond.code ({ cls := "GridTableModel", name := "go", desc := "(I)Z" } : Jvm.MethodName) prog_40_method_31_code (11 : Nat) (Option.some Jvm.ClassFile.FieldType.boolean)) ∈ lw_all := lw_g (lw_at lw_m13 237 rfl) rfl
theorem q3229 : (Jvm.Cond.methodLink "GridTableModel" (179 : Nat) ({ cls := "GridTableModel", name := "holds", desc := "(I)Z" } : Jvm.MethodName)) ∈ lw_all := lw_g (lw_at lw_m13 238 rfl) rfl
theorem q3230 : (Jvm.Cond.privateMethod ({ cls := "GridTableModel", name := "holds", desc := "(I)Z" } : Jvm.MethodName)) ∈ lw_tbl := lw_at lw_m13 239 rfl
theorem q3231 : (Jvm.Cond.instanceMethod ({ cls := "GridTableModel", name := "holds", desc := "(I)Z" } : Jvm.MethodName)) ∈ lw_all := lw_g (lw_at lw_m14 0 rfl) rfl
theorem q3232 : (Jvm.Cond.code ({ cls := "GridTableModel", name := "holds", desc := "(I)Z" } : Jvm.MethodName) prog_40_method_30_code (2 : Nat) (Option.some Jvm.ClassFile.FieldType.boolean)) ∈ lw_all := lw_g (lw_at lw_m14 1 rfl) rfl
theorem q3233 : (Jvm.Cond.methodLink "GridTableModel" (176 : Nat) ({ cls := "GridTableModel", name := "testOf", desc := "(I)I" } : Jvm.MethodName)) ∈ lw_all := lw_g (lw_at lw_m14 2 rfl) rfl
theorem q3234 : (Jvm.Cond.privateMethod ({ cls := "GridTableModel", name := "testOf", desc := "(I)I" } : Jvm.MethodName)) ∈ lw_tbl := lw_at lw_m14 3 rfl
theorem q3235 : (Jvm.Cond.instanceMethod ({ cls := "GridTableModel", name := "testOf", desc := "(I)I" } : Jvm.MethodName)) ∈ lw_all := lw_g (lw_at lw_m14 4 rfl) rfl
theorem q3236 : (Jvm.Cond.code ({ cls := "GridTableModel", name := "testOf", desc := "(I)I" } : Jvm.MethodName) prog_40_method_29_code (3 : Nat) (Option.some Jvm.ClassFile.FieldType.int)) ∈ lw_all := lw_g (lw_at lw_m14 5 rfl) rfl
theorem q3237 : (Jvm.Cond.methodLink "GridTableModel" (148 : Nat) ({ cls := "GridTableModel", name := "test", desc := "()Z" } : Jvm.MethodName)) ∈ lw_all := lw_g (lw_at lw_m14 6 rfl) rfl
theorem q3238 : (Jvm.Cond.privateMethod ({ cls := "GridTableModel", name := "test", desc := "()Z" } : Jvm.MethodName)) ∈ lw_tbl := lw_at lw_m14 7 rfl
theorem q3239 : (Jvm.Cond.instanceMethod ({ cls := "GridTableModel", name := "test", desc := "()Z" } : Jvm.MethodName)) ∈ lw_all := lw_g (lw_at lw_m14 8 rfl) rfl
theorem q3240 : (Jvm.Cond.code ({ cls := "GridTableModel", name := "test", desc := "()Z" } : Jvm.MethodName) prog_40_method_22_code (2 : Nat) (Option.some Jvm.ClassFile.FieldType.boolean)) ∈ lw_all := lw_g (lw_at lw_m14 9 rfl) rfl
theorem q3241 : (Jvm.Cond.methodLink "GridTableModel" (137 : Nat) ({ cls := "GridTableModel", name := "both", desc := "()Z" } : Jvm.MethodName)) ∈ lw_all := lw_g (lw_at lw_m14 10 rfl) rfl
theorem q3242 : (Jvm.Cond.privateMethod ({ cls := "GridTableModel", name := "both", desc := "()Z" } : Jvm.MethodName)) ∈ lw_tbl := lw_at lw_m14 11 rfl
theorem q3243 : (Jvm.Cond.instanceMethod ({ cls := "GridTableModel", name := "both", desc := "()Z" } : Jvm.MethodName)) ∈ lw_all := lw_g (lw_at lw_m14 12 rfl) rfl
theorem q3244 : (Jvm.Cond.code ({ cls := "GridTableModel", name := "both", desc := "()Z" } : Jvm.MethodName) prog_40_method_23_code (2 : Nat) (Option.some Jvm.ClassFile.FieldType.boolean)) ∈ lw_all := lw_g (lw_at lw_m14 13 rfl) rfl
theorem q3245 : (Jvm.Cond.methodLink "GridTableModel" (145 : Nat) ({ cls := "GridTableModel", name := "single", desc := "()Z" } : Jvm.MethodName)) ∈ lw_all := lw_g (lw_at lw_m14 14 rfl) rfl
theorem q3246 : (Jvm.Cond.privateMethod ({ cls := "GridTableModel", name := "single", desc := "()Z" } : Jvm.MethodName)) ∈ lw_tbl := lw_at lw_m14 15 rfl
theorem q3247 : (Jvm.Cond.instanceMethod ({ cls := "GridTableModel", name := "single", desc := "()Z" } : Jvm.MethodName)) ∈ lw_all := lw_g (lw_at lw_m14 16 rfl) rfl
theorem q3248 : (Jvm.Cond.code ({ cls := "GridTableModel", name := "single", desc := "()Z" } : Jvm.MethodName) prog_40_method_24_code (4 : Nat) (Option.some Jvm.ClassFile.FieldType.boolean)) ∈ lw_all := lw_g (lw_at lw_m14 17 rfl) rfl
theorem q3249 : (Jvm.Cond.methodLink "GridTableModel" (141 : Nat) ({ cls := "GridTableModel", name := "goesBy", desc := "(I)Z" } : Jvm.MethodName)) ∈ lw_all := lw_g (lw_at lw_m14 18 rfl) rfl
theorem q3250 : (Jvm.Cond.privateMethod ({ cls := "GridTableModel", name := "goesBy", desc := "(I)Z" } : Jvm.MethodName)) ∈ lw_tbl := lw_at lw_m14 19 rfl
theorem q3251 : (Jvm.Cond.instanceMethod ({ cls := "GridTableModel", name := "goesBy", desc := "(I)Z" } : Jvm.MethodName)) ∈ lw_all := lw_g (lw_at lw_m14 20 rfl) rfl
theorem q3252 : (Jvm.Cond.code ({ cls := "GridTableModel", name := "goesBy", desc := "(I)Z" } : Jvm.MethodName) prog_40_method_20_code (2 : Nat) (Option.some Jvm.ClassFile.FieldType.boolean)) ∈ lw_all := lw_g (lw_at lw_m14 21 rfl) rfl
theorem q3254 : (Jvm.Cond.instanceMethod ({ cls := "GridTableModel", name := "run", desc := "()I" } : Jvm.MethodName)) ∈ lw_all := lw_g (lw_at lw_m14 23 rfl) rfl
theorem q3255 : (Jvm.Cond.selects "GridTableModel" ({ cls := "GridTableModel", name := "run", desc := "()I" } : Jvm.MethodName) ({ cls := "GridTableModel", name := "run", desc := "()I" } : Jvm.MethodName)) ∈ lw_all := lw_g (lw_at lw_m14 24 rfl) rfl
theorem q3256 : (Jvm.Cond.code ({ cls := "GridTableModel", name := "run", desc := "()I" } : Jvm.MethodName) prog_40_method_100_code (3 : Nat) (Option.some Jvm.ClassFile.FieldType.int)) ∈ lw_all := lw_g (lw_at lw_m14 25 rfl) rfl
theorem q3258 : (Jvm.Cond.instanceMethod ({ cls := "GridTableModel", name := "undo", desc := "()I" } : Jvm.MethodName)) ∈ lw_all := lw_g (lw_at lw_m14 27 rfl) rfl
theorem q3259 : (Jvm.Cond.selects "GridTableModel" ({ cls := "GridTableModel", name := "undo", desc := "()I" } : Jvm.MethodName) ({ cls := "GridTableModel", name := "undo", desc := "()I" } : Jvm.MethodName)) ∈ lw_all := lw_g (lw_at lw_m14 28 rfl) rfl
theorem q3260 : (Jvm.Cond.code ({ cls := "GridTableModel", name := "undo", desc := "()I" } : Jvm.MethodName) prog_40_method_101_code (4 : Nat) (Option.some Jvm.ClassFile.FieldType.int)) ∈ lw_all := lw_g (lw_at lw_m14 29 rfl) rfl
theorem q3262 : (Jvm.Cond.instanceMethod ({ cls := "GridTableModel", name := "step", desc := "(II)I" } : Jvm.MethodName)) ∈ lw_all := lw_g (lw_at lw_m14 31 rfl) rfl
theorem q3263 : (Jvm.Cond.selects "GridTableModel" ({ cls := "GridTableModel", name := "step", desc := "(II)I" } : Jvm.MethodName) ({ cls := "GridTableModel", name := "step", desc := "(II)I" } : Jvm.MethodName)) ∈ lw_all := lw_g (lw_at lw_m14 32 rfl) rfl
theorem q3264 : (Jvm.Cond.code ({ cls := "GridTableModel", name := "step", desc := "(II)I" } : Jvm.MethodName) prog_40_method_103_code (3 : Nat) (Option.some Jvm.ClassFile.FieldType.int)) ∈ lw_all := lw_g (lw_at lw_m14 33 rfl) rfl
theorem q3265 : (Jvm.Cond.methodLink "GridTableModel" (447 : Nat) ({ cls := "GridTableModel", name := "stepTold", desc := "(II)I" } : Jvm.MethodName)) ∈ lw_all := lw_g (lw_at lw_m14 34 rfl) rfl
theorem q3266 : (Jvm.Cond.privateMethod ({ cls := "GridTableModel", name := "stepTold", desc := "(II)I" } : Jvm.MethodName)) ∈ lw_tbl := lw_at lw_m14 35 rfl
theorem q3267 : (Jvm.Cond.instanceMethod ({ cls := "GridTableModel", name := "stepTold", desc := "(II)I" } : Jvm.MethodName)) ∈ lw_all := lw_g (lw_at lw_m14 36 rfl) rfl
theorem q3268 : (Jvm.Cond.code ({ cls := "GridTableModel", name := "stepTold", desc := "(II)I" } : Jvm.MethodName) prog_40_method_102_code (5 : Nat) (Option.some Jvm.ClassFile.FieldType.int)) ∈ lw_all := lw_g (lw_at lw_m14 37 rfl) rfl
theorem q3270 : (Jvm.Cond.instanceMethod ({ cls := "GridTableModel", name := "would", desc := "(I)I" } : Jvm.MethodName)) ∈ lw_all := lw_g (lw_at lw_m14 39 rfl) rfl
theorem q3271 : (Jvm.Cond.selects "GridTableModel" ({ cls := "GridTableModel", name := "would", desc := "(I)I" } : Jvm.MethodName) ({ cls := "GridTableModel", name := "would", desc := "(I)I" } : Jvm.MethodName)) ∈ lw_all := lw_g (lw_at lw_m14 40 rfl) rfl
theorem q3272 : (Jvm.Cond.code ({ cls := "GridTableModel", name := "would", desc := "(I)I" } : Jvm.MethodName) prog_40_method_104_code (3 : Nat) (Option.some Jvm.ClassFile.FieldType.int)) ∈ lw_all := lw_g (lw_at lw_m14 41 rfl) rfl
theorem q3273 : (Jvm.Cond.methodLink "GridTableModel" (450 : Nat) ({ cls := "GridTableModel", name := "goAll", desc := "(I)I" } : Jvm.MethodName)) ∈ lw_all := lw_g (lw_at lw_m14 42 rfl) rfl
theorem q3274 : (Jvm.Cond.privateMethod ({ cls := "GridTableModel", name := "goAll", desc := "(I)I" } : Jvm.MethodName)) ∈ lw_tbl := lw_at lw_m14 43 rfl
theorem q3275 : (Jvm.Cond.instanceMethod ({ cls := "GridTableModel", name := "goAll", desc := "(I)I" } : Jvm.MethodName)) ∈ lw_all := lw_g (lw_at lw_m14 44 rfl) rfl
theorem q3276 : (Jvm.Cond.code ({ cls := "GridTableModel", name := "goAll", desc := "(I)I" } : Jvm.MethodName) prog_40_method_32_code (4 : Nat) (Option.some Jvm.ClassFile.FieldType.int)) ∈ lw_all := lw_g (lw_at lw_m14 45 rfl) rfl
theorem q3278 : (Jvm.Cond.instanceMethod ({ cls := "GridTableModel", name := "without", desc := "(I)I" } : Jvm.MethodName)) ∈ lw_all := lw_g (lw_at lw_m14 47 rfl) rfl
theorem q3279 : (Jvm.Cond.selects "GridTableModel" ({ cls := "GridTableModel", name := "without", desc := "(I)I" } : Jvm.MethodName) ({ cls := "GridTableModel", name := "without", desc := "(I)I" } : Jvm.MethodName)) ∈ lw_all := lw_g (lw_at lw_m14 48 rfl) rfl
theorem q3280 : (Jvm.Cond.code ({ cls := "GridTableModel", name := "without", desc := "(I)I" } : Jvm.MethodName) prog_40_method_105_code (2 : Nat) (Option.some Jvm.ClassFile.FieldType.int)) ∈ lw_all := lw_g (lw_at lw_m14 49 rfl) rfl
theorem q3282 : (Jvm.Cond.instanceMethod ({ cls := "GridTableModel", name := "mean", desc := "()D" } : Jvm.MethodName)) ∈ lw_all := lw_g (lw_at lw_m14 51 rfl) rfl
theorem q3283 : (Jvm.Cond.selects "GridTableModel" ({ cls := "GridTableModel", name := "mean", desc := "()D" } : Jvm.MethodName) ({ cls := "GridTableModel", name := "mean", desc := "()D" } : Jvm.MethodName)) ∈ lw_all := lw_g (lw_at lw_m14 52 rfl) rfl
theorem q3284 : (Jvm.Cond.code ({ cls := "GridTableModel", name := "mean", desc := "()D" } : Jvm.MethodName) prog_40_method_106_code (1 : Nat) (Option.some Jvm.ClassFile.FieldType.double)) ∈ lw_all := lw_g (lw_at lw_m14 53 rfl) rfl
theorem q3286 : (Jvm.Cond.instanceMethod ({ cls := "GridTableModel", name := "digest", desc := "()J" } : Jvm.MethodName)) ∈ lw_all := lw_g (lw_at lw_m14 55 rfl) rfl
theorem q3287 : (Jvm.Cond.selects "GridTableModel" ({ cls := "GridTableModel", name := "digest", desc := "()J" } : Jvm.MethodName) ({ cls := "GridTableModel", name := "digest", desc := "()J" } : Jvm.MethodName)) ∈ lw_all := lw_g (lw_at lw_m14 56 rfl) rfl
theorem q3288 : (Jvm.Cond.code ({ cls := "GridTableModel", name := "digest", desc := "()J" } : Jvm.MethodName) prog_40_method_107_code (5 : Nat) (Option.some Jvm.ClassFile.FieldType.long)) ∈ lw_all := lw_g (lw_at lw_m14 57 rfl) rfl
theorem q3289 : (Jvm.Cond.constantLong "GridTableModel" (453 : Nat) (811 : Int64)) ∈ lw_all := lw_g (lw_at lw_m14 58 rfl) rfl
theorem q3290 : (Jvm.Cond.constantLong "GridTableModel" (455 : Nat) (31 : Int64)) ∈ lw_all := lw_g (lw_at lw_m14 59 rfl) rfl
theorem q3333 : (Jvm.Cond.castable "GridTableModel" "java/lang/Object") ∈ lw_tbl := lw_at lw_m14 102 rfl
theorem q3428 : (Jvm.Cond.stringRef "GridTableModel" (457 : Nat) "point") ∈ lw_tbl := lw_at lw_m14 197 rfl
theorem q3429 : (Jvm.Cond.stringRef "GridTableModel" (459 : Nat) "at") ∈ lw_tbl := lw_at lw_m14 198 rfl
theorem q3430 : (Jvm.Cond.stringRef "GridTableModel" (461 : Nat) "shape") ∈ lw_tbl := lw_at lw_m14 199 rfl
theorem q3431 : (Jvm.Cond.stringRef "GridTableModel" (463 : Nat) "of") ∈ lw_tbl := lw_at lw_m14 200 rfl
theorem q3432 : (Jvm.Cond.stringRef "GridTableModel" (465 : Nat) "move") ∈ lw_tbl := lw_at lw_m14 201 rfl
theorem q3433 : (Jvm.Cond.stringRef "GridTableModel" (467 : Nat) "by") ∈ lw_tbl := lw_at lw_m14 202 rfl
theorem q3434 : (Jvm.Cond.stringRef "GridTableModel" (469 : Nat) "turn") ∈ lw_tbl := lw_at lw_m14 203 rfl
theorem q3435 : (Jvm.Cond.stringRef "GridTableModel" (471 : Nat) "round") ∈ lw_tbl := lw_at lw_m14 204 rfl
theorem q3436 : (Jvm.Cond.stringRef "GridTableModel" (473 : Nat) "flip") ∈ lw_tbl := lw_at lw_m14 205 rfl
theorem q3437 : (Jvm.Cond.stringRef "GridTableModel" (475 : Nat) "when") ∈ lw_tbl := lw_at lw_m14 206 rfl
theorem q3438 : (Jvm.Cond.stringRef "GridTableModel" (477 : Nat) "x") ∈ lw_tbl := lw_at lw_m14 207 rfl
theorem q3439 : (Jvm.Cond.stringRef "GridTableModel" (478 : Nat) "y") ∈ lw_tbl := lw_at lw_m14 208 rfl
theorem q3440 : (Jvm.Cond.stringRef "GridTableModel" (479 : Nat) "area") ∈ lw_tbl := lw_at lw_m14 209 rfl
theorem q3441 : (Jvm.Cond.stringRef "GridTableModel" (481 : Nat) "crosses") ∈ lw_tbl := lw_at lw_m14 210 rfl
theorem q3442 : (Jvm.Cond.stringRef "GridTableModel" (483 : Nat) "inside") ∈ lw_tbl := lw_at lw_m14 211 rfl
theorem q3443 : (Jvm.Cond.stringRef "GridTableModel" (485 : Nat) "not") ∈ lw_tbl := lw_at lw_m14 212 rfl
theorem q3444 : (Jvm.Cond.stringRef "GridTableModel" (487 : Nat) "and") ∈ lw_tbl := lw_at lw_m14 213 rfl
theorem q3445 : (Jvm.Cond.stringRef "GridTableModel" (489 : Nat) "or") ∈ lw_tbl := lw_at lw_m14 214 rfl
theorem q3446 : (Jvm.Cond.stringRef "GridTableModel" (491 : Nat) "min") ∈ lw_tbl := lw_at lw_m14 215 rfl
theorem q3447 : (Jvm.Cond.stringRef "GridTableModel" (492 : Nat) "max") ∈ lw_tbl := lw_at lw_m14 216 rfl
theorem in_X4 : ∀ w ∈ wsX40, w ∈ lw_all := lw_in wsX40 [2811, 2813, 2815, 2817, 2819, 2821, 2823, 2825, 2827, 2829, 2831, 2833, 2835, 2837, 2839, 2841, 2843, 2845, 2847] (by decide +kernel) (by decide +kernel)

