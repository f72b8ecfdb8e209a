set_option maxRecDepth 100000
/-! GridTableModel -/
set_option maxRecDepth 100000
def RX4 : String := "GridTableModel"
def TX4 : u_T := fun k => match k with
  | 0 => ("GridTableModel", "thrown", "I", false)
  | 1 => ("GridTableModel", "tape", "[I", true)
  | 2 => ("GridTableModel", "size", "I", false)
  | 3 => ("GridTableModel", "errorAt", "I", false)
  | 4 => ("GridTableModel", "token", "I", false)
  | 5 => ("GridTableModel", "depth", "I", false)
  | 6 => ("GridTableModel", "sheet", "LGridTableModel$Sheet;", false)
  | 7 => ("GridTableModel", "now", "LGridTableModel$Places;", false)
  | 8 => ("GridTableModel", "ahead", "LGridTableModel$Places;", true)
  | 9 => ("GridTableModel", "often", "[I", true)
  | 10 => ("GridTableModel", "done", "I", false)
  | 11 => ("GridTableModel", "kept", "[LGridTableModel$Places;", true)
  | 12 => ("GridTableModel", "oldest", "I", false)
  | 13 => ("GridTableModel", "keeps", "I", false)
  | 14 => ("GridTableModel", "seen", "LGridTableModel$Sheet;", false)
  | 15 => ("GridTableModel", "on", "LGridTableModel$Places;", false)
  | 16 => ("GridTableModel", "walk", "I", false)
  | 17 => ("GridTableModel", "hull", "[I", true)
  | _ => ("GridTableModel", "hulls", "I", false)
def tyX4 : Nat → FieldType := fun k => match k with
  | 0 => .int
  | 1 => .array .int
  | 2 => .int
  | 3 => .int
  | 4 => .int
  | 5 => .int
  | 6 => .object "GridTableModel$Sheet"
  | 7 => .object "GridTableModel$Places"
  | 8 => .object "GridTableModel$Places"
  | 9 => .array .int
  | 10 => .int
  | 11 => .array (.object "GridTableModel$Places")
  | 12 => .int
  | 13 => .int
  | 14 => .object "GridTableModel$Sheet"
  | 15 => .object "GridTableModel$Places"
  | 16 => .int
  | 17 => .array .int
  | _ => .int
abbrev wsX40 : List Cond := u_ws RX4 TX4 19
set_option maxRecDepth 100000 in
theorem nmX4 : ∀ a, a < 19 → ∀ b, b < 19 → a ≠ b → (TX4 a).2.1 ≠ (TX4 b).2.1 := by decide +kernel
set_option maxRecDepth 100000 in
theorem tyX4_ok : ∀ k, k < 19 → parseFieldDescriptor (TX4 k).2.2.1 = some (tyX4 k) := by decide +kernel
abbrev cX4_init : ByteArray := prog_40_method_1_code
def yX4_init : MethodName := ⟨RX4, "<init>", "()V"⟩
def dkwX4_init_5 : List UInt8 := [167, 255, 234, 177]
abbrev dktX4_init_5 : List UInt8 := dkwX4_init_5 ++ []
def dkwX4_init_4 : List UInt8 := [60, 27, 16, 12, 162, 0, 22, 42, 180, 0, 37, 27, 187, 0, 24, 89, 183, 0, 26, 83, 132, 1, 1]
abbrev dktX4_init_4 : List UInt8 := dkwX4_init_4 ++ dktX4_init_5
def dkwX4_init_3 : List UInt8 := [42, 180, 0, 20, 181, 0, 41, 42, 42, 180, 0, 27, 181, 0, 44, 42, 16, 18, 188, 10, 181, 0, 47, 3]
abbrev dktX4_init_3 : List UInt8 := dkwX4_init_3 ++ dktX4_init_4
def dkwX4_init_2 : List UInt8 := [183, 0, 26, 181, 0, 31, 42, 16, 20, 188, 10, 181, 0, 34, 42, 16, 12, 189, 0, 24, 181, 0, 37, 42]
abbrev dktX4_init_2 : List UInt8 := dkwX4_init_2 ++ dktX4_init_3
def dkwX4_init_1 : List UInt8 := [183, 0, 19, 181, 0, 20, 42, 187, 0, 24, 89, 183, 0, 26, 181, 0, 27, 42, 187, 0, 24, 89]
abbrev dktX4_init_1 : List UInt8 := dkwX4_init_1 ++ dktX4_init_2
def dkwX4_init_0 : List UInt8 := [42, 183, 0, 1, 42, 17, 7, 208, 188, 10, 181, 0, 9, 42, 2, 181, 0, 13, 42, 187, 0, 17, 89]
abbrev dktX4_init_0 : List UInt8 := dkwX4_init_0 ++ dktX4_init_1
theorem dksX4_init_0 : cX4_init.data.toList.drop 0 = dktX4_init_0 := by decide +kernel
theorem dksX4_init_1 : cX4_init.data.toList.drop 23 = dktX4_init_1 := dk_seg dksX4_init_0 23 rfl rfl
theorem dksX4_init_2 : cX4_init.data.toList.drop 45 = dktX4_init_2 := dk_seg dksX4_init_1 22 rfl rfl
theorem dksX4_init_3 : cX4_init.data.toList.drop 69 = dktX4_init_3 := dk_seg dksX4_init_2 24 rfl rfl
theorem dksX4_init_4 : cX4_init.data.toList.drop 93 = dktX4_init_4 := dk_seg dksX4_init_3 24 rfl rfl
theorem dksX4_init_5 : cX4_init.data.toList.drop 116 = dktX4_init_5 := dk_seg dksX4_init_4 23 rfl rfl
theorem dX4_init_0 : decode cX4_init 0 = .ok (.aload_n 0, 1) := dk_42 (dk_at dksX4_init_0 0 rfl rfl)
theorem dX4_init_1 : decode cX4_init 1 = .ok (.invokespecial 1, 3) := dk_183 0 1 (dk_at dksX4_init_0 1 rfl rfl)
theorem dX4_init_4 : decode cX4_init 4 = .ok (.aload_n 0, 1) := dk_42 (dk_at dksX4_init_0 4 rfl rfl)
theorem dX4_init_5 : decode cX4_init 5 = .ok (.sipush 2000, 3) := dk_17 7 208 (dk_at dksX4_init_0 5 rfl rfl)
theorem dX4_init_8 : decode cX4_init 8 = .ok (.newarray .int, 2) := dk_188_10 (dk_at dksX4_init_0 8 rfl rfl)
theorem dX4_init_10 : decode cX4_init 10 = .ok (.putfield 9, 3) := dk_181 0 9 (dk_at dksX4_init_0 10 rfl rfl)
theorem dX4_init_13 : decode cX4_init 13 = .ok (.aload_n 0, 1) := dk_42 (dk_at dksX4_init_0 13 rfl rfl)
theorem dX4_init_14 : decode cX4_init 14 = .ok (.iconst (-1), 1) := dk_2 (dk_at dksX4_init_0 14 rfl rfl)
theorem dX4_init_15 : decode cX4_init 15 = .ok (.putfield 13, 3) := dk_181 0 13 (dk_at dksX4_init_0 15 rfl rfl)
theorem dX4_init_18 : decode cX4_init 18 = .ok (.aload_n 0, 1) := dk_42 (dk_at dksX4_init_0 18 rfl rfl)
theorem dX4_init_19 : decode cX4_init 19 = .ok (.new 17, 3) := dk_187 0 17 (dk_at dksX4_init_0 19 rfl rfl)
theorem dX4_init_22 : decode cX4_init 22 = .ok (.dup, 1) := dk_89 (dk_at dksX4_init_0 22 rfl rfl)
theorem dX4_init_23 : decode cX4_init 23 = .ok (.invokespecial 19, 3) := dk_183 0 19 (dk_at dksX4_init_1 0 rfl rfl)
theorem dX4_init_26 : decode cX4_init 26 = .ok (.putfield 20, 3) := dk_181 0 20 (dk_at dksX4_init_1 3 rfl rfl)
theorem dX4_init_29 : decode cX4_init 29 = .ok (.aload_n 0, 1) := dk_42 (dk_at dksX4_init_1 6 rfl rfl)
theorem dX4_init_30 : decode cX4_init 30 = .ok (.new 24, 3) := dk_187 0 24 (dk_at dksX4_init_1 7 rfl rfl)
theorem dX4_init_33 : decode cX4_init 33 = .ok (.dup, 1) := dk_89 (dk_at dksX4_init_1 10 rfl rfl)
theorem dX4_init_34 : decode cX4_init 34 = .ok (.invokespecial 26, 3) := dk_183 0 26 (dk_at dksX4_init_1 11 rfl rfl)
theorem dX4_init_37 : decode cX4_init 37 = .ok (.putfield 27, 3) := dk_181 0 27 (dk_at dksX4_init_1 14 rfl rfl)
theorem dX4_init_40 : decode cX4_init 40 = .ok (.aload_n 0, 1) := dk_42 (dk_at dksX4_init_1 17 rfl rfl)
theorem dX4_init_41 : decode cX4_init 41 = .ok (.new 24, 3) := dk_187 0 24 (dk_at dksX4_init_1 18 rfl rfl)
theorem dX4_init_44 : decode cX4_init 44 = .ok (.dup, 1) := dk_89 (dk_at dksX4_init_1 21 rfl rfl)
theorem dX4_init_45 : decode cX4_init 45 = .ok (.invokespecial 26, 3) := dk_183 0 26 (dk_at dksX4_init_2 0 rfl rfl)
theorem dX4_init_48 : decode cX4_init 48 = .ok (.putfield 31, 3) := dk_181 0 31 (dk_at dksX4_init_2 3 rfl rfl)
theorem dX4_init_51 : decode cX4_init 51 = .ok (.aload_n 0, 1) := dk_42 (dk_at dksX4_init_2 6 rfl rfl)
theorem dX4_init_52 : decode cX4_init 52 = .ok (.bipush 20, 2) := dk_16 20 (dk_at dksX4_init_2 7 rfl rfl)
theorem dX4_init_54 : decode cX4_init 54 = .ok (.newarray .int, 2) := dk_188_10 (dk_at dksX4_init_2 9 rfl rfl)
theorem dX4_init_56 : decode cX4_init 56 = .ok (.putfield 34, 3) := dk_181 0 34 (dk_at dksX4_init_2 11 rfl rfl)
theorem dX4_init_59 : decode cX4_init 59 = .ok (.aload_n 0, 1) := dk_42 (dk_at dksX4_init_2 14 rfl rfl)
theorem dX4_init_60 : decode cX4_init 60 = .ok (.bipush 12, 2) := dk_16 12 (dk_at dksX4_init_2 15 rfl rfl)
theorem dX4_init_62 : decode cX4_init 62 = .ok (.anewarray 24, 3) := dk_189 0 24 (dk_at dksX4_init_2 17 rfl rfl)
theorem dX4_init_65 : decode cX4_init 65 = .ok (.putfield 37, 3) := dk_181 0 37 (dk_at dksX4_init_2 20 rfl rfl)
theorem dX4_init_68 : decode cX4_init 68 = .ok (.aload_n 0, 1) := dk_42 (dk_at dksX4_init_2 23 rfl rfl)
theorem dX4_init_69 : decode cX4_init 69 = .ok (.aload_n 0, 1) := dk_42 (dk_at dksX4_init_3 0 rfl rfl)
theorem dX4_init_70 : decode cX4_init 70 = .ok (.getfield 20, 3) := dk_180 0 20 (dk_at dksX4_init_3 1 rfl rfl)
theorem dX4_init_73 : decode cX4_init 73 = .ok (.putfield 41, 3) := dk_181 0 41 (dk_at dksX4_init_3 4 rfl rfl)
theorem dX4_init_76 : decode cX4_init 76 = .ok (.aload_n 0, 1) := dk_42 (dk_at dksX4_init_3 7 rfl rfl)
theorem dX4_init_77 : decode cX4_init 77 = .ok (.aload_n 0, 1) := dk_42 (dk_at dksX4_init_3 8 rfl rfl)
theorem dX4_init_78 : decode cX4_init 78 = .ok (.getfield 27, 3) := dk_180 0 27 (dk_at dksX4_init_3 9 rfl rfl)
theorem dX4_init_81 : decode cX4_init 81 = .ok (.putfield 44, 3) := dk_181 0 44 (dk_at dksX4_init_3 12 rfl rfl)
theorem dX4_init_84 : decode cX4_init 84 = .ok (.aload_n 0, 1) := dk_42 (dk_at dksX4_init_3 15 rfl rfl)
theorem dX4_init_85 : decode cX4_init 85 = .ok (.bipush 18, 2) := dk_16 18 (dk_at dksX4_init_3 16 rfl rfl)
theorem dX4_init_87 : decode cX4_init 87 = .ok (.newarray .int, 2) := dk_188_10 (dk_at dksX4_init_3 18 rfl rfl)
theorem dX4_init_89 : decode cX4_init 89 = .ok (.putfield 47, 3) := dk_181 0 47 (dk_at dksX4_init_3 20 rfl rfl)
theorem dX4_init_92 : decode cX4_init 92 = .ok (.iconst 0, 1) := dk_3 (dk_at dksX4_init_3 23 rfl rfl)
theorem dX4_init_93 : decode cX4_init 93 = .ok (.istore_n 1, 1) := dk_60 (dk_at dksX4_init_4 0 rfl rfl)
theorem dX4_init_94 : decode cX4_init 94 = .ok (.iload_n 1, 1) := dk_27 (dk_at dksX4_init_4 1 rfl rfl)
theorem dX4_init_95 : decode cX4_init 95 = .ok (.bipush 12, 2) := dk_16 12 (dk_at dksX4_init_4 2 rfl rfl)
theorem dX4_init_97 : decode cX4_init 97 = .ok (.if_icmp .ge 22, 3) := dk_162 0 22 (dk_at dksX4_init_4 4 rfl rfl)
theorem dX4_init_100 : decode cX4_init 100 = .ok (.aload_n 0, 1) := dk_42 (dk_at dksX4_init_4 7 rfl rfl)
theorem dX4_init_101 : decode cX4_init 101 = .ok (.getfield 37, 3) := dk_180 0 37 (dk_at dksX4_init_4 8 rfl rfl)
theorem dX4_init_104 : decode cX4_init 104 = .ok (.iload_n 1, 1) := dk_27 (dk_at dksX4_init_4 11 rfl rfl)
theorem dX4_init_105 : decode cX4_init 105 = .ok (.new 24, 3) := dk_187 0 24 (dk_at dksX4_init_4 12 rfl rfl)
theorem dX4_init_108 : decode cX4_init 108 = .ok (.dup, 1) := dk_89 (dk_at dksX4_init_4 15 rfl rfl)
theorem dX4_init_109 : decode cX4_init 109 = .ok (.invokespecial 26, 3) := dk_183 0 26 (dk_at dksX4_init_4 16 rfl rfl)
theorem dX4_init_112 : decode cX4_init 112 = .ok (.aastore, 1) := dk_83 (dk_at dksX4_init_4 19 rfl rfl)
theorem dX4_init_113 : decode cX4_init 113 = .ok (.iinc 1 1, 3) := dk_132 1 1 (dk_at dksX4_init_4 20 rfl rfl)
theorem dX4_init_116 : decode cX4_init 116 = .ok (.goto (-22), 3) := dk_167 255 234 (dk_at dksX4_init_5 0 rfl rfl)
theorem dX4_init_119 : decode cX4_init 119 = .ok (.return_, 1) := dk_177 (dk_at dksX4_init_5 3 rfl rfl)
abbrev cX4_thrown : ByteArray := prog_40_method_2_code
def yX4_thrown : MethodName := ⟨RX4, "thrown", "()I"⟩
theorem dX4_thrown_0 : decode cX4_thrown 0 = .ok (.aload_n 0, 1) := by decide +kernel
theorem dX4_thrown_1 : decode cX4_thrown 1 = .ok (.getfield 50, 3) := by decide +kernel
theorem dX4_thrown_4 : decode cX4_thrown 4 = .ok (.ireturn, 1) := by decide +kernel
abbrev cX4_feed : ByteArray := prog_40_method_72_code
def yX4_feed : MethodName := ⟨RX4, "feed", "(IIIII)I"⟩
def dkwX4_feed_4 : List UInt8 := [167, 255, 212, 42, 89, 180, 0, 224, 16, 20, 96, 181, 0, 224, 42, 180, 0, 224, 172]
abbrev dktX4_feed_4 : List UInt8 := dkwX4_feed_4 ++ []
def dkwX4_feed_3 : List UInt8 := [21, 7, 7, 108, 46, 16, 24, 16, 8, 21, 7, 7, 112, 104, 100, 122, 17, 0, 255, 126, 79, 132, 7, 1]
abbrev dktX4_feed_3 : List UInt8 := dkwX4_feed_3 ++ dktX4_feed_4
def dkwX4_feed_2 : List UInt8 := [3, 54, 7, 21, 7, 16, 20, 162, 0, 43, 42, 180, 0, 9, 42, 180, 0, 224, 21, 7, 96, 25, 6]
abbrev dktX4_feed_2 : List UInt8 := dkwX4_feed_2 ++ dktX4_feed_3
def dkwX4_feed_1 : List UInt8 := [89, 3, 27, 79, 89, 4, 28, 79, 89, 5, 29, 79, 89, 6, 21, 4, 79, 89, 7, 21, 5, 79, 58, 6]
abbrev dktX4_feed_1 : List UInt8 := dkwX4_feed_1 ++ dktX4_feed_2
def dkwX4_feed_0 : List UInt8 := [42, 3, 181, 0, 50, 42, 180, 0, 224, 17, 7, 188, 164, 0, 9, 42, 4, 182, 1, 122, 172, 8, 188, 10]
abbrev dktX4_feed_0 : List UInt8 := dkwX4_feed_0 ++ dktX4_feed_1
theorem dksX4_feed_0 : cX4_feed.data.toList.drop 0 = dktX4_feed_0 := by decide +kernel
theorem dksX4_feed_1 : cX4_feed.data.toList.drop 24 = dktX4_feed_1 := dk_seg dksX4_feed_0 24 rfl rfl
theorem dksX4_feed_2 : cX4_feed.data.toList.drop 48 = dktX4_feed_2 := dk_seg dksX4_feed_1 24 rfl rfl
theorem dksX4_feed_3 : cX4_feed.data.toList.drop 71 = dktX4_feed_3 := dk_seg dksX4_feed_2 23 rfl rfl
theorem dksX4_feed_4 : cX4_feed.data.toList.drop 95 = dktX4_feed_4 := dk_seg dksX4_feed_3 24 rfl rfl
theorem dX4_feed_0 : decode cX4_feed 0 = .ok (.aload_n 0, 1) := dk_42 (dk_at dksX4_feed_0 0 rfl rfl)
theorem dX4_feed_1 : decode cX4_feed 1 = .ok (.iconst 0, 1) := dk_3 (dk_at dksX4_feed_0 1 rfl rfl)
theorem dX4_feed_2 : decode cX4_feed 2 = .ok (.putfield 50, 3) := dk_181 0 50 (dk_at dksX4_feed_0 2 rfl rfl)
theorem dX4_feed_5 : decode cX4_feed 5 = .ok (.aload_n 0, 1) := dk_42 (dk_at dksX4_feed_0 5 rfl rfl)
theorem dX4_feed_6 : decode cX4_feed 6 = .ok (.getfield 224, 3) := dk_180 0 224 (dk_at dksX4_feed_0 6 rfl rfl)
theorem dX4_feed_9 : decode cX4_feed 9 = .ok (.sipush 1980, 3) := dk_17 7 188 (dk_at dksX4_feed_0 9 rfl rfl)
theorem dX4_feed_12 : decode cX4_feed 12 = .ok (.if_icmp .le 9, 3) := dk_164 0 9 (dk_at dksX4_feed_0 12 rfl rfl)
theorem dX4_feed_15 : decode cX4_feed 15 = .ok (.aload_n 0, 1) := dk_42 (dk_at dksX4_feed_0 15 rfl rfl)
theorem dX4_feed_16 : decode cX4_feed 16 = .ok (.iconst 1, 1) := dk_4 (dk_at dksX4_feed_0 16 rfl rfl)
theorem dX4_feed_17 : decode cX4_feed 17 = .ok (.invokevirtual 378, 3) := dk_182 1 122 (dk_at dksX4_feed_0 17 rfl rfl)
theorem dX4_feed_20 : decode cX4_feed 20 = .ok (.ireturn, 1) := dk_172 (dk_at dksX4_feed_0 20 rfl rfl)
theorem dX4_feed_21 : decode cX4_feed 21 = .ok (.iconst 5, 1) := dk_8 (dk_at dksX4_feed_0 21 rfl rfl)
theorem dX4_feed_22 : decode cX4_feed 22 = .ok (.newarray .int, 2) := dk_188_10 (dk_at dksX4_feed_0 22 rfl rfl)
theorem dX4_feed_24 : decode cX4_feed 24 = .ok (.dup, 1) := dk_89 (dk_at dksX4_feed_1 0 rfl rfl)
theorem dX4_feed_25 : decode cX4_feed 25 = .ok (.iconst 0, 1) := dk_3 (dk_at dksX4_feed_1 1 rfl rfl)
theorem dX4_feed_26 : decode cX4_feed 26 = .ok (.iload_n 1, 1) := dk_27 (dk_at dksX4_feed_1 2 rfl rfl)
theorem dX4_feed_27 : decode cX4_feed 27 = .ok (.iastore, 1) := dk_79 (dk_at dksX4_feed_1 3 rfl rfl)
theorem dX4_feed_28 : decode cX4_feed 28 = .ok (.dup, 1) := dk_89 (dk_at dksX4_feed_1 4 rfl rfl)
theorem dX4_feed_29 : decode cX4_feed 29 = .ok (.iconst 1, 1) := dk_4 (dk_at dksX4_feed_1 5 rfl rfl)
theorem dX4_feed_30 : decode cX4_feed 30 = .ok (.iload_n 2, 1) := dk_28 (dk_at dksX4_feed_1 6 rfl rfl)
theorem dX4_feed_31 : decode cX4_feed 31 = .ok (.iastore, 1) := dk_79 (dk_at dksX4_feed_1 7 rfl rfl)
theorem dX4_feed_32 : decode cX4_feed 32 = .ok (.dup, 1) := dk_89 (dk_at dksX4_feed_1 8 rfl rfl)
theorem dX4_feed_33 : decode cX4_feed 33 = .ok (.iconst 2, 1) := dk_5 (dk_at dksX4_feed_1 9 rfl rfl)
theorem dX4_feed_34 : decode cX4_feed 34 = .ok (.iload_n 3, 1) := dk_29 (dk_at dksX4_feed_1 10 rfl rfl)
theorem dX4_feed_35 : decode cX4_feed 35 = .ok (.iastore, 1) := dk_79 (dk_at dksX4_feed_1 11 rfl rfl)
theorem dX4_feed_36 : decode cX4_feed 36 = .ok (.dup, 1) := dk_89 (dk_at dksX4_feed_1 12 rfl rfl)
theorem dX4_feed_37 : decode cX4_feed 37 = .ok (.iconst 3, 1) := dk_6 (dk_at dksX4_feed_1 13 rfl rfl)
theorem dX4_feed_38 : decode cX4_feed 38 = .ok (.iload 4, 2) := dk_21 4 (dk_at dksX4_feed_1 14 rfl rfl)
theorem dX4_feed_40 : decode cX4_feed 40 = .ok (.iastore, 1) := dk_79 (dk_at dksX4_feed_1 16 rfl rfl)
theorem dX4_feed_41 : decode cX4_feed 41 = .ok (.dup, 1) := dk_89 (dk_at dksX4_feed_1 17 rfl rfl)
theorem dX4_feed_42 : decode cX4_feed 42 = .ok (.iconst 4, 1) := dk_7 (dk_at dksX4_feed_1 18 rfl rfl)
theorem dX4_feed_43 : decode cX4_feed 43 = .ok (.iload 5, 2) := dk_21 5 (dk_at dksX4_feed_1 19 rfl rfl)
theorem dX4_feed_45 : decode cX4_feed 45 = .ok (.iastore, 1) := dk_79 (dk_at dksX4_feed_1 21 rfl rfl)
theorem dX4_feed_46 : decode cX4_feed 46 = .ok (.astore 6, 2) := dk_58 6 (dk_at dksX4_feed_1 22 rfl rfl)
theorem dX4_feed_48 : decode cX4_feed 48 = .ok (.iconst 0, 1) := dk_3 (dk_at dksX4_feed_2 0 rfl rfl)
theorem dX4_feed_49 : decode cX4_feed 49 = .ok (.istore 7, 2) := dk_54 7 (dk_at dksX4_feed_2 1 rfl rfl)
theorem dX4_feed_51 : decode cX4_feed 51 = .ok (.iload 7, 2) := dk_21 7 (dk_at dksX4_feed_2 3 rfl rfl)
theorem dX4_feed_53 : decode cX4_feed 53 = .ok (.bipush 20, 2) := dk_16 20 (dk_at dksX4_feed_2 5 rfl rfl)
theorem dX4_feed_55 : decode cX4_feed 55 = .ok (.if_icmp .ge 43, 3) := dk_162 0 43 (dk_at dksX4_feed_2 7 rfl rfl)
theorem dX4_feed_58 : decode cX4_feed 58 = .ok (.aload_n 0, 1) := dk_42 (dk_at dksX4_feed_2 10 rfl rfl)
theorem dX4_feed_59 : decode cX4_feed 59 = .ok (.getfield 9, 3) := dk_180 0 9 (dk_at dksX4_feed_2 11 rfl rfl)
theorem dX4_feed_62 : decode cX4_feed 62 = .ok (.aload_n 0, 1) := dk_42 (dk_at dksX4_feed_2 14 rfl rfl)
theorem dX4_feed_63 : decode cX4_feed 63 = .ok (.getfield 224, 3) := dk_180 0 224 (dk_at dksX4_feed_2 15 rfl rfl)
theorem dX4_feed_66 : decode cX4_feed 66 = .ok (.iload 7, 2) := dk_21 7 (dk_at dksX4_feed_2 18 rfl rfl)
theorem dX4_feed_68 : decode cX4_feed 68 = .ok (.iadd, 1) := dk_96 (dk_at dksX4_feed_2 20 rfl rfl)
theorem dX4_feed_69 : decode cX4_feed 69 = .ok (.aload 6, 2) := dk_25 6 (dk_at dksX4_feed_2 21 rfl rfl)
theorem dX4_feed_71 : decode cX4_feed 71 = .ok (.iload 7, 2) := dk_21 7 (dk_at dksX4_feed_3 0 rfl rfl)
theorem dX4_feed_73 : decode cX4_feed 73 = .ok (.iconst 4, 1) := dk_7 (dk_at dksX4_feed_3 2 rfl rfl)
theorem dX4_feed_74 : decode cX4_feed 74 = .ok (.idiv, 1) := dk_108 (dk_at dksX4_feed_3 3 rfl rfl)
theorem dX4_feed_75 : decode cX4_feed 75 = .ok (.iaload, 1) := dk_46 (dk_at dksX4_feed_3 4 rfl rfl)
theorem dX4_feed_76 : decode cX4_feed 76 = .ok (.bipush 24, 2) := dk_16 24 (dk_at dksX4_feed_3 5 rfl rfl)
theorem dX4_feed_78 : decode cX4_feed 78 = .ok (.bipush 8, 2) := dk_16 8 (dk_at dksX4_feed_3 7 rfl rfl)
theorem dX4_feed_80 : decode cX4_feed 80 = .ok (.iload 7, 2) := dk_21 7 (dk_at dksX4_feed_3 9 rfl rfl)
theorem dX4_feed_82 : decode cX4_feed 82 = .ok (.iconst 4, 1) := dk_7 (dk_at dksX4_feed_3 11 rfl rfl)
theorem dX4_feed_83 : decode cX4_feed 83 = .ok (.irem, 1) := dk_112 (dk_at dksX4_feed_3 12 rfl rfl)
theorem dX4_feed_84 : decode cX4_feed 84 = .ok (.imul, 1) := dk_104 (dk_at dksX4_feed_3 13 rfl rfl)
theorem dX4_feed_85 : decode cX4_feed 85 = .ok (.isub, 1) := dk_100 (dk_at dksX4_feed_3 14 rfl rfl)
theorem dX4_feed_86 : decode cX4_feed 86 = .ok (.ishr, 1) := dk_122 (dk_at dksX4_feed_3 15 rfl rfl)
theorem dX4_feed_87 : decode cX4_feed 87 = .ok (.sipush 255, 3) := dk_17 0 255 (dk_at dksX4_feed_3 16 rfl rfl)
theorem dX4_feed_90 : decode cX4_feed 90 = .ok (.iand, 1) := dk_126 (dk_at dksX4_feed_3 19 rfl rfl)
theorem dX4_feed_91 : decode cX4_feed 91 = .ok (.iastore, 1) := dk_79 (dk_at dksX4_feed_3 20 rfl rfl)
theorem dX4_feed_92 : decode cX4_feed 92 = .ok (.iinc 7 1, 3) := dk_132 7 1 (dk_at dksX4_feed_3 21 rfl rfl)
theorem dX4_feed_95 : decode cX4_feed 95 = .ok (.goto (-44), 3) := dk_167 255 212 (dk_at dksX4_feed_4 0 rfl rfl)
theorem dX4_feed_98 : decode cX4_feed 98 = .ok (.aload_n 0, 1) := dk_42 (dk_at dksX4_feed_4 3 rfl rfl)
theorem dX4_feed_99 : decode cX4_feed 99 = .ok (.dup, 1) := dk_89 (dk_at dksX4_feed_4 4 rfl rfl)
theorem dX4_feed_100 : decode cX4_feed 100 = .ok (.getfield 224, 3) := dk_180 0 224 (dk_at dksX4_feed_4 5 rfl rfl)
theorem dX4_feed_103 : decode cX4_feed 103 = .ok (.bipush 20, 2) := dk_16 20 (dk_at dksX4_feed_4 8 rfl rfl)
theorem dX4_feed_105 : decode cX4_feed 105 = .ok (.iadd, 1) := dk_96 (dk_at dksX4_feed_4 10 rfl rfl)
theorem dX4_feed_106 : decode cX4_feed 106 = .ok (.putfield 224, 3) := dk_181 0 224 (dk_at dksX4_feed_4 11 rfl rfl)
theorem dX4_feed_109 : decode cX4_feed 109 = .ok (.aload_n 0, 1) := dk_42 (dk_at dksX4_feed_4 14 rfl rfl)
theorem dX4_feed_110 : decode cX4_feed 110 = .ok (.getfield 224, 3) := dk_180 0 224 (dk_at dksX4_feed_4 15 rfl rfl)
theorem dX4_feed_113 : decode cX4_feed 113 = .ok (.ireturn, 1) := dk_172 (dk_at dksX4_feed_4 18 rfl rfl)
abbrev cX4_no : ByteArray := prog_40_method_3_code
def yX4_no : MethodName := ⟨RX4, "no", "(I)I"⟩
def dkwX4_no_0 : List UInt8 := [42, 27, 181, 0, 50, 3, 172]
abbrev dktX4_no_0 : List UInt8 := dkwX4_no_0 ++ []
theorem dksX4_no_0 : cX4_no.data.toList.drop 0 = dktX4_no_0 := by decide +kernel
theorem dX4_no_0 : decode cX4_no 0 = .ok (.aload_n 0, 1) := dk_42 (dk_at dksX4_no_0 0 rfl rfl)
theorem dX4_no_1 : decode cX4_no 1 = .ok (.iload_n 1, 1) := dk_27 (dk_at dksX4_no_0 1 rfl rfl)
theorem dX4_no_2 : decode cX4_no 2 = .ok (.putfield 50, 3) := dk_181 0 50 (dk_at dksX4_no_0 2 rfl rfl)
theorem dX4_no_5 : decode cX4_no 5 = .ok (.iconst 0, 1) := dk_3 (dk_at dksX4_no_0 5 rfl rfl)
theorem dX4_no_6 : decode cX4_no 6 = .ok (.ireturn, 1) := dk_172 (dk_at dksX4_no_0 6 rfl rfl)
abbrev cX4_trim : ByteArray := prog_40_method_73_code
def yX4_trim : MethodName := ⟨RX4, "trim", "(I)I"⟩
def dkwX4_trim_1 : List UInt8 := [27, 181, 0, 224, 27, 172]
abbrev dktX4_trim_1 : List UInt8 := dkwX4_trim_1 ++ []
def dkwX4_trim_0 : List UInt8 := [42, 3, 181, 0, 50, 27, 3, 42, 180, 0, 224, 184, 0, 69, 154, 0, 9, 42, 4, 182, 1, 122, 172, 42]
abbrev dktX4_trim_0 : List UInt8 := dkwX4_trim_0 ++ dktX4_trim_1
theorem dksX4_trim_0 : cX4_trim.data.toList.drop 0 = dktX4_trim_0 := by decide +kernel
theorem dksX4_trim_1 : cX4_trim.data.toList.drop 24 = dktX4_trim_1 := dk_seg dksX4_trim_0 24 rfl rfl
theorem dX4_trim_0 : decode cX4_trim 0 = .ok (.aload_n 0, 1) := dk_42 (dk_at dksX4_trim_0 0 rfl rfl)
theorem dX4_trim_1 : decode cX4_trim 1 = .ok (.iconst 0, 1) := dk_3 (dk_at dksX4_trim_0 1 rfl rfl)
theorem dX4_trim_2 : decode cX4_trim 2 = .ok (.putfield 50, 3) := dk_181 0 50 (dk_at dksX4_trim_0 2 rfl rfl)
theorem dX4_trim_5 : decode cX4_trim 5 = .ok (.iload_n 1, 1) := dk_27 (dk_at dksX4_trim_0 5 rfl rfl)
theorem dX4_trim_6 : decode cX4_trim 6 = .ok (.iconst 0, 1) := dk_3 (dk_at dksX4_trim_0 6 rfl rfl)
theorem dX4_trim_7 : decode cX4_trim 7 = .ok (.aload_n 0, 1) := dk_42 (dk_at dksX4_trim_0 7 rfl rfl)
theorem dX4_trim_8 : decode cX4_trim 8 = .ok (.getfield 224, 3) := dk_180 0 224 (dk_at dksX4_trim_0 8 rfl rfl)
theorem dX4_trim_11 : decode cX4_trim 11 = .ok (.invokestatic 69, 3) := dk_184 0 69 (dk_at dksX4_trim_0 11 rfl rfl)
theorem dX4_trim_14 : decode cX4_trim 14 = .ok (.ifCond .ne 9, 3) := dk_154 0 9 (dk_at dksX4_trim_0 14 rfl rfl)
theorem dX4_trim_17 : decode cX4_trim 17 = .ok (.aload_n 0, 1) := dk_42 (dk_at dksX4_trim_0 17 rfl rfl)
theorem dX4_trim_18 : decode cX4_trim 18 = .ok (.iconst 1, 1) := dk_4 (dk_at dksX4_trim_0 18 rfl rfl)
theorem dX4_trim_19 : decode cX4_trim 19 = .ok (.invokevirtual 378, 3) := dk_182 1 122 (dk_at dksX4_trim_0 19 rfl rfl)
theorem dX4_trim_22 : decode cX4_trim 22 = .ok (.ireturn, 1) := dk_172 (dk_at dksX4_trim_0 22 rfl rfl)
theorem dX4_trim_23 : decode cX4_trim 23 = .ok (.aload_n 0, 1) := dk_42 (dk_at dksX4_trim_0 23 rfl rfl)
theorem dX4_trim_24 : decode cX4_trim 24 = .ok (.iload_n 1, 1) := dk_27 (dk_at dksX4_trim_1 0 rfl rfl)
theorem dX4_trim_25 : decode cX4_trim 25 = .ok (.putfield 224, 3) := dk_181 0 224 (dk_at dksX4_trim_1 1 rfl rfl)
theorem dX4_trim_28 : decode cX4_trim 28 = .ok (.iload_n 1, 1) := dk_27 (dk_at dksX4_trim_1 4 rfl rfl)
theorem dX4_trim_29 : decode cX4_trim 29 = .ok (.ireturn, 1) := dk_172 (dk_at dksX4_trim_1 5 rfl rfl)
abbrev cX4_isIn : ByteArray := prog_40_method_4_code
def yX4_isIn : MethodName := ⟨RX4, "isIn", "(III)Z"⟩
def dkwX4_isIn_0 : List UInt8 := [26, 27, 161, 0, 12, 26, 28, 163, 0, 7, 4, 167, 0, 4, 3, 172]
abbrev dktX4_isIn_0 : List UInt8 := dkwX4_isIn_0 ++ []
theorem dksX4_isIn_0 : cX4_isIn.data.toList.drop 0 = dktX4_isIn_0 := by decide +kernel
theorem dX4_isIn_0 : decode cX4_isIn 0 = .ok (.iload_n 0, 1) := dk_26 (dk_at dksX4_isIn_0 0 rfl rfl)
theorem dX4_isIn_1 : decode cX4_isIn 1 = .ok (.iload_n 1, 1) := dk_27 (dk_at dksX4_isIn_0 1 rfl rfl)
theorem dX4_isIn_2 : decode cX4_isIn 2 = .ok (.if_icmp .lt 12, 3) := dk_161 0 12 (dk_at dksX4_isIn_0 2 rfl rfl)
theorem dX4_isIn_5 : decode cX4_isIn 5 = .ok (.iload_n 0, 1) := dk_26 (dk_at dksX4_isIn_0 5 rfl rfl)
theorem dX4_isIn_6 : decode cX4_isIn 6 = .ok (.iload_n 2, 1) := dk_28 (dk_at dksX4_isIn_0 6 rfl rfl)
theorem dX4_isIn_7 : decode cX4_isIn 7 = .ok (.if_icmp .gt 7, 3) := dk_163 0 7 (dk_at dksX4_isIn_0 7 rfl rfl)
theorem dX4_isIn_10 : decode cX4_isIn 10 = .ok (.iconst 1, 1) := dk_4 (dk_at dksX4_isIn_0 10 rfl rfl)
theorem dX4_isIn_11 : decode cX4_isIn 11 = .ok (.goto 4, 3) := dk_167 0 4 (dk_at dksX4_isIn_0 11 rfl rfl)
theorem dX4_isIn_14 : decode cX4_isIn 14 = .ok (.iconst 0, 1) := dk_3 (dk_at dksX4_isIn_0 14 rfl rfl)
theorem dX4_isIn_15 : decode cX4_isIn 15 = .ok (.ireturn, 1) := dk_172 (dk_at dksX4_isIn_0 15 rfl rfl)
abbrev cX4_teach : ByteArray := prog_40_method_74_code
def yX4_teach : MethodName := ⟨RX4, "teach", "()I"⟩
def dkwX4_teach_4 : List UInt8 := [172]
abbrev dktX4_teach_4 : List UInt8 := dkwX4_teach_4 ++ []
def dkwX4_teach_3 : List UInt8 := [3, 79, 132, 4, 1, 167, 255, 238, 42, 3, 181, 1, 129, 42, 3, 181, 0, 192, 42, 3, 181, 0, 189, 3]
abbrev dktX4_teach_3 : List UInt8 := dkwX4_teach_3 ++ dktX4_teach_4
def dkwX4_teach_2 : List UInt8 := [181, 0, 20, 42, 44, 181, 0, 27, 3, 54, 4, 21, 4, 16, 20, 162, 0, 17, 42, 180, 0, 34, 21, 4]
abbrev dktX4_teach_2 : List UInt8 := dkwX4_teach_2 ++ dktX4_teach_3
def dkwX4_teach_1 : List UInt8 := [183, 0, 26, 77, 42, 43, 44, 182, 1, 125, 62, 42, 3, 181, 0, 224, 29, 158, 0, 5, 29, 172, 42, 43]
abbrev dktX4_teach_1 : List UInt8 := dkwX4_teach_1 ++ dktX4_teach_2
def dkwX4_teach_0 : List UInt8 := [42, 3, 181, 0, 50, 42, 2, 181, 0, 13, 187, 0, 17, 89, 183, 0, 19, 76, 187, 0, 24, 89]
abbrev dktX4_teach_0 : List UInt8 := dkwX4_teach_0 ++ dktX4_teach_1
theorem dksX4_teach_0 : cX4_teach.data.toList.drop 0 = dktX4_teach_0 := by decide +kernel
theorem dksX4_teach_1 : cX4_teach.data.toList.drop 22 = dktX4_teach_1 := dk_seg dksX4_teach_0 22 rfl rfl
theorem dksX4_teach_2 : cX4_teach.data.toList.drop 46 = dktX4_teach_2 := dk_seg dksX4_teach_1 24 rfl rfl
theorem dksX4_teach_3 : cX4_teach.data.toList.drop 70 = dktX4_teach_3 := dk_seg dksX4_teach_2 24 rfl rfl
theorem dksX4_teach_4 : cX4_teach.data.toList.drop 94 = dktX4_teach_4 := dk_seg dksX4_teach_3 24 rfl rfl
theorem dX4_teach_0 : decode cX4_teach 0 = .ok (.aload_n 0, 1) := dk_42 (dk_at dksX4_teach_0 0 rfl rfl)
theorem dX4_teach_1 : decode cX4_teach 1 = .ok (.iconst 0, 1) := dk_3 (dk_at dksX4_teach_0 1 rfl rfl)
theorem dX4_teach_2 : decode cX4_teach 2 = .ok (.putfield 50, 3) := dk_181 0 50 (dk_at dksX4_teach_0 2 rfl rfl)
theorem dX4_teach_5 : decode cX4_teach 5 = .ok (.aload_n 0, 1) := dk_42 (dk_at dksX4_teach_0 5 rfl rfl)
theorem dX4_teach_6 : decode cX4_teach 6 = .ok (.iconst (-1), 1) := dk_2 (dk_at dksX4_teach_0 6 rfl rfl)
theorem dX4_teach_7 : decode cX4_teach 7 = .ok (.putfield 13, 3) := dk_181 0 13 (dk_at dksX4_teach_0 7 rfl rfl)
theorem dX4_teach_10 : decode cX4_teach 10 = .ok (.new 17, 3) := dk_187 0 17 (dk_at dksX4_teach_0 10 rfl rfl)
theorem dX4_teach_13 : decode cX4_teach 13 = .ok (.dup, 1) := dk_89 (dk_at dksX4_teach_0 13 rfl rfl)
theorem dX4_teach_14 : decode cX4_teach 14 = .ok (.invokespecial 19, 3) := dk_183 0 19 (dk_at dksX4_teach_0 14 rfl rfl)
theorem dX4_teach_17 : decode cX4_teach 17 = .ok (.astore_n 1, 1) := dk_76 (dk_at dksX4_teach_0 17 rfl rfl)
theorem dX4_teach_18 : decode cX4_teach 18 = .ok (.new 24, 3) := dk_187 0 24 (dk_at dksX4_teach_0 18 rfl rfl)
theorem dX4_teach_21 : decode cX4_teach 21 = .ok (.dup, 1) := dk_89 (dk_at dksX4_teach_0 21 rfl rfl)
theorem dX4_teach_22 : decode cX4_teach 22 = .ok (.invokespecial 26, 3) := dk_183 0 26 (dk_at dksX4_teach_1 0 rfl rfl)
theorem dX4_teach_25 : decode cX4_teach 25 = .ok (.astore_n 2, 1) := dk_77 (dk_at dksX4_teach_1 3 rfl rfl)
theorem dX4_teach_26 : decode cX4_teach 26 = .ok (.aload_n 0, 1) := dk_42 (dk_at dksX4_teach_1 4 rfl rfl)
theorem dX4_teach_27 : decode cX4_teach 27 = .ok (.aload_n 1, 1) := dk_43 (dk_at dksX4_teach_1 5 rfl rfl)
theorem dX4_teach_28 : decode cX4_teach 28 = .ok (.aload_n 2, 1) := dk_44 (dk_at dksX4_teach_1 6 rfl rfl)
theorem dX4_teach_29 : decode cX4_teach 29 = .ok (.invokevirtual 381, 3) := dk_182 1 125 (dk_at dksX4_teach_1 7 rfl rfl)
theorem dX4_teach_32 : decode cX4_teach 32 = .ok (.istore_n 3, 1) := dk_62 (dk_at dksX4_teach_1 10 rfl rfl)
theorem dX4_teach_33 : decode cX4_teach 33 = .ok (.aload_n 0, 1) := dk_42 (dk_at dksX4_teach_1 11 rfl rfl)
theorem dX4_teach_34 : decode cX4_teach 34 = .ok (.iconst 0, 1) := dk_3 (dk_at dksX4_teach_1 12 rfl rfl)
theorem dX4_teach_35 : decode cX4_teach 35 = .ok (.putfield 224, 3) := dk_181 0 224 (dk_at dksX4_teach_1 13 rfl rfl)
theorem dX4_teach_38 : decode cX4_teach 38 = .ok (.iload_n 3, 1) := dk_29 (dk_at dksX4_teach_1 16 rfl rfl)
theorem dX4_teach_39 : decode cX4_teach 39 = .ok (.ifCond .le 5, 3) := dk_158 0 5 (dk_at dksX4_teach_1 17 rfl rfl)
theorem dX4_teach_42 : decode cX4_teach 42 = .ok (.iload_n 3, 1) := dk_29 (dk_at dksX4_teach_1 20 rfl rfl)
theorem dX4_teach_43 : decode cX4_teach 43 = .ok (.ireturn, 1) := dk_172 (dk_at dksX4_teach_1 21 rfl rfl)
theorem dX4_teach_44 : decode cX4_teach 44 = .ok (.aload_n 0, 1) := dk_42 (dk_at dksX4_teach_1 22 rfl rfl)
theorem dX4_teach_45 : decode cX4_teach 45 = .ok (.aload_n 1, 1) := dk_43 (dk_at dksX4_teach_1 23 rfl rfl)
theorem dX4_teach_46 : decode cX4_teach 46 = .ok (.putfield 20, 3) := dk_181 0 20 (dk_at dksX4_teach_2 0 rfl rfl)
theorem dX4_teach_49 : decode cX4_teach 49 = .ok (.aload_n 0, 1) := dk_42 (dk_at dksX4_teach_2 3 rfl rfl)
theorem dX4_teach_50 : decode cX4_teach 50 = .ok (.aload_n 2, 1) := dk_44 (dk_at dksX4_teach_2 4 rfl rfl)
theorem dX4_teach_51 : decode cX4_teach 51 = .ok (.putfield 27, 3) := dk_181 0 27 (dk_at dksX4_teach_2 5 rfl rfl)
theorem dX4_teach_54 : decode cX4_teach 54 = .ok (.iconst 0, 1) := dk_3 (dk_at dksX4_teach_2 8 rfl rfl)
theorem dX4_teach_55 : decode cX4_teach 55 = .ok (.istore 4, 2) := dk_54 4 (dk_at dksX4_teach_2 9 rfl rfl)
theorem dX4_teach_57 : decode cX4_teach 57 = .ok (.iload 4, 2) := dk_21 4 (dk_at dksX4_teach_2 11 rfl rfl)
theorem dX4_teach_59 : decode cX4_teach 59 = .ok (.bipush 20, 2) := dk_16 20 (dk_at dksX4_teach_2 13 rfl rfl)
theorem dX4_teach_61 : decode cX4_teach 61 = .ok (.if_icmp .ge 17, 3) := dk_162 0 17 (dk_at dksX4_teach_2 15 rfl rfl)
theorem dX4_teach_64 : decode cX4_teach 64 = .ok (.aload_n 0, 1) := dk_42 (dk_at dksX4_teach_2 18 rfl rfl)
theorem dX4_teach_65 : decode cX4_teach 65 = .ok (.getfield 34, 3) := dk_180 0 34 (dk_at dksX4_teach_2 19 rfl rfl)
theorem dX4_teach_68 : decode cX4_teach 68 = .ok (.iload 4, 2) := dk_21 4 (dk_at dksX4_teach_2 22 rfl rfl)
theorem dX4_teach_70 : decode cX4_teach 70 = .ok (.iconst 0, 1) := dk_3 (dk_at dksX4_teach_3 0 rfl rfl)
theorem dX4_teach_71 : decode cX4_teach 71 = .ok (.iastore, 1) := dk_79 (dk_at dksX4_teach_3 1 rfl rfl)
theorem dX4_teach_72 : decode cX4_teach 72 = .ok (.iinc 4 1, 3) := dk_132 4 1 (dk_at dksX4_teach_3 2 rfl rfl)
theorem dX4_teach_75 : decode cX4_teach 75 = .ok (.goto (-18), 3) := dk_167 255 238 (dk_at dksX4_teach_3 5 rfl rfl)
theorem dX4_teach_78 : decode cX4_teach 78 = .ok (.aload_n 0, 1) := dk_42 (dk_at dksX4_teach_3 8 rfl rfl)
theorem dX4_teach_79 : decode cX4_teach 79 = .ok (.iconst 0, 1) := dk_3 (dk_at dksX4_teach_3 9 rfl rfl)
theorem dX4_teach_80 : decode cX4_teach 80 = .ok (.putfield 385, 3) := dk_181 1 129 (dk_at dksX4_teach_3 10 rfl rfl)
theorem dX4_teach_83 : decode cX4_teach 83 = .ok (.aload_n 0, 1) := dk_42 (dk_at dksX4_teach_3 13 rfl rfl)
theorem dX4_teach_84 : decode cX4_teach 84 = .ok (.iconst 0, 1) := dk_3 (dk_at dksX4_teach_3 14 rfl rfl)
theorem dX4_teach_85 : decode cX4_teach 85 = .ok (.putfield 192, 3) := dk_181 0 192 (dk_at dksX4_teach_3 15 rfl rfl)
theorem dX4_teach_88 : decode cX4_teach 88 = .ok (.aload_n 0, 1) := dk_42 (dk_at dksX4_teach_3 18 rfl rfl)
theorem dX4_teach_89 : decode cX4_teach 89 = .ok (.iconst 0, 1) := dk_3 (dk_at dksX4_teach_3 19 rfl rfl)
theorem dX4_teach_90 : decode cX4_teach 90 = .ok (.putfield 189, 3) := dk_181 0 189 (dk_at dksX4_teach_3 20 rfl rfl)
theorem dX4_teach_93 : decode cX4_teach 93 = .ok (.iconst 0, 1) := dk_3 (dk_at dksX4_teach_3 23 rfl rfl)
theorem dX4_teach_94 : decode cX4_teach 94 = .ok (.ireturn, 1) := dk_172 (dk_at dksX4_teach_4 0 rfl rfl)
abbrev cX4_read : ByteArray := prog_40_method_71_code
def yX4_read : MethodName := ⟨RX4, "read", "(LGridTableModel$Sheet;LGridTableModel$Places;)I"⟩
def dkwX4_read_3 : List UInt8 := [181, 0, 13, 21, 4, 172, 132, 3, 1, 167, 255, 215, 3, 172]
abbrev dktX4_read_3 : List UInt8 := dkwX4_read_3 ++ []
def dkwX4_read_2 : List UInt8 := [42, 43, 29, 44, 182, 1, 118, 54, 4, 21, 4, 154, 0, 6, 167, 0, 16, 42, 43, 180, 1, 4, 29, 46]
abbrev dktX4_read_2 : List UInt8 := dkwX4_read_2 ++ dktX4_read_3
def dkwX4_read_1 : List UInt8 := [43, 180, 1, 4, 42, 180, 1, 11, 46, 181, 0, 13, 4, 172, 3, 62, 29, 42, 180, 1, 11, 162, 0, 39]
abbrev dktX4_read_1 : List UInt8 := dkwX4_read_1 ++ dktX4_read_2
def dkwX4_read_0 : List UInt8 := [42, 43, 182, 1, 111, 42, 3, 181, 1, 11, 42, 3, 181, 1, 14, 42, 43, 182, 1, 115, 154, 0, 18, 42]
abbrev dktX4_read_0 : List UInt8 := dkwX4_read_0 ++ dktX4_read_1
theorem dksX4_read_0 : cX4_read.data.toList.drop 0 = dktX4_read_0 := by decide +kernel
theorem dksX4_read_1 : cX4_read.data.toList.drop 24 = dktX4_read_1 := dk_seg dksX4_read_0 24 rfl rfl
theorem dksX4_read_2 : cX4_read.data.toList.drop 48 = dktX4_read_2 := dk_seg dksX4_read_1 24 rfl rfl
theorem dksX4_read_3 : cX4_read.data.toList.drop 72 = dktX4_read_3 := dk_seg dksX4_read_2 24 rfl rfl
theorem dX4_read_0 : decode cX4_read 0 = .ok (.aload_n 0, 1) := dk_42 (dk_at dksX4_read_0 0 rfl rfl)
theorem dX4_read_1 : decode cX4_read 1 = .ok (.aload_n 1, 1) := dk_43 (dk_at dksX4_read_0 1 rfl rfl)
theorem dX4_read_2 : decode cX4_read 2 = .ok (.invokevirtual 367, 3) := dk_182 1 111 (dk_at dksX4_read_0 2 rfl rfl)
theorem dX4_read_5 : decode cX4_read 5 = .ok (.aload_n 0, 1) := dk_42 (dk_at dksX4_read_0 5 rfl rfl)
theorem dX4_read_6 : decode cX4_read 6 = .ok (.iconst 0, 1) := dk_3 (dk_at dksX4_read_0 6 rfl rfl)
theorem dX4_read_7 : decode cX4_read 7 = .ok (.putfield 267, 3) := dk_181 1 11 (dk_at dksX4_read_0 7 rfl rfl)
theorem dX4_read_10 : decode cX4_read 10 = .ok (.aload_n 0, 1) := dk_42 (dk_at dksX4_read_0 10 rfl rfl)
theorem dX4_read_11 : decode cX4_read 11 = .ok (.iconst 0, 1) := dk_3 (dk_at dksX4_read_0 11 rfl rfl)
theorem dX4_read_12 : decode cX4_read 12 = .ok (.putfield 270, 3) := dk_181 1 14 (dk_at dksX4_read_0 12 rfl rfl)
theorem dX4_read_15 : decode cX4_read 15 = .ok (.aload_n 0, 1) := dk_42 (dk_at dksX4_read_0 15 rfl rfl)
theorem dX4_read_16 : decode cX4_read 16 = .ok (.aload_n 1, 1) := dk_43 (dk_at dksX4_read_0 16 rfl rfl)
theorem dX4_read_17 : decode cX4_read 17 = .ok (.invokevirtual 371, 3) := dk_182 1 115 (dk_at dksX4_read_0 17 rfl rfl)
theorem dX4_read_20 : decode cX4_read 20 = .ok (.ifCond .ne 18, 3) := dk_154 0 18 (dk_at dksX4_read_0 20 rfl rfl)
theorem dX4_read_23 : decode cX4_read 23 = .ok (.aload_n 0, 1) := dk_42 (dk_at dksX4_read_0 23 rfl rfl)
theorem dX4_read_24 : decode cX4_read 24 = .ok (.aload_n 1, 1) := dk_43 (dk_at dksX4_read_1 0 rfl rfl)
theorem dX4_read_25 : decode cX4_read 25 = .ok (.getfield 260, 3) := dk_180 1 4 (dk_at dksX4_read_1 1 rfl rfl)
theorem dX4_read_28 : decode cX4_read 28 = .ok (.aload_n 0, 1) := dk_42 (dk_at dksX4_read_1 4 rfl rfl)
theorem dX4_read_29 : decode cX4_read 29 = .ok (.getfield 267, 3) := dk_180 1 11 (dk_at dksX4_read_1 5 rfl rfl)
theorem dX4_read_32 : decode cX4_read 32 = .ok (.iaload, 1) := dk_46 (dk_at dksX4_read_1 8 rfl rfl)
theorem dX4_read_33 : decode cX4_read 33 = .ok (.putfield 13, 3) := dk_181 0 13 (dk_at dksX4_read_1 9 rfl rfl)
theorem dX4_read_36 : decode cX4_read 36 = .ok (.iconst 1, 1) := dk_4 (dk_at dksX4_read_1 12 rfl rfl)
theorem dX4_read_37 : decode cX4_read 37 = .ok (.ireturn, 1) := dk_172 (dk_at dksX4_read_1 13 rfl rfl)
theorem dX4_read_38 : decode cX4_read 38 = .ok (.iconst 0, 1) := dk_3 (dk_at dksX4_read_1 14 rfl rfl)
theorem dX4_read_39 : decode cX4_read 39 = .ok (.istore_n 3, 1) := dk_62 (dk_at dksX4_read_1 15 rfl rfl)
theorem dX4_read_40 : decode cX4_read 40 = .ok (.iload_n 3, 1) := dk_29 (dk_at dksX4_read_1 16 rfl rfl)
theorem dX4_read_41 : decode cX4_read 41 = .ok (.aload_n 0, 1) := dk_42 (dk_at dksX4_read_1 17 rfl rfl)
theorem dX4_read_42 : decode cX4_read 42 = .ok (.getfield 267, 3) := dk_180 1 11 (dk_at dksX4_read_1 18 rfl rfl)
theorem dX4_read_45 : decode cX4_read 45 = .ok (.if_icmp .ge 39, 3) := dk_162 0 39 (dk_at dksX4_read_1 21 rfl rfl)
theorem dX4_read_48 : decode cX4_read 48 = .ok (.aload_n 0, 1) := dk_42 (dk_at dksX4_read_2 0 rfl rfl)
theorem dX4_read_49 : decode cX4_read 49 = .ok (.aload_n 1, 1) := dk_43 (dk_at dksX4_read_2 1 rfl rfl)
theorem dX4_read_50 : decode cX4_read 50 = .ok (.iload_n 3, 1) := dk_29 (dk_at dksX4_read_2 2 rfl rfl)
theorem dX4_read_51 : decode cX4_read 51 = .ok (.aload_n 2, 1) := dk_44 (dk_at dksX4_read_2 3 rfl rfl)
theorem dX4_read_52 : decode cX4_read 52 = .ok (.invokevirtual 374, 3) := dk_182 1 118 (dk_at dksX4_read_2 4 rfl rfl)
theorem dX4_read_55 : decode cX4_read 55 = .ok (.istore 4, 2) := dk_54 4 (dk_at dksX4_read_2 7 rfl rfl)
theorem dX4_read_57 : decode cX4_read 57 = .ok (.iload 4, 2) := dk_21 4 (dk_at dksX4_read_2 9 rfl rfl)
theorem dX4_read_59 : decode cX4_read 59 = .ok (.ifCond .ne 6, 3) := dk_154 0 6 (dk_at dksX4_read_2 11 rfl rfl)
theorem dX4_read_62 : decode cX4_read 62 = .ok (.goto 16, 3) := dk_167 0 16 (dk_at dksX4_read_2 14 rfl rfl)
theorem dX4_read_65 : decode cX4_read 65 = .ok (.aload_n 0, 1) := dk_42 (dk_at dksX4_read_2 17 rfl rfl)
theorem dX4_read_66 : decode cX4_read 66 = .ok (.aload_n 1, 1) := dk_43 (dk_at dksX4_read_2 18 rfl rfl)
theorem dX4_read_67 : decode cX4_read 67 = .ok (.getfield 260, 3) := dk_180 1 4 (dk_at dksX4_read_2 19 rfl rfl)
theorem dX4_read_70 : decode cX4_read 70 = .ok (.iload_n 3, 1) := dk_29 (dk_at dksX4_read_2 22 rfl rfl)
theorem dX4_read_71 : decode cX4_read 71 = .ok (.iaload, 1) := dk_46 (dk_at dksX4_read_2 23 rfl rfl)
theorem dX4_read_72 : decode cX4_read 72 = .ok (.putfield 13, 3) := dk_181 0 13 (dk_at dksX4_read_3 0 rfl rfl)
theorem dX4_read_75 : decode cX4_read 75 = .ok (.iload 4, 2) := dk_21 4 (dk_at dksX4_read_3 3 rfl rfl)
theorem dX4_read_77 : decode cX4_read 77 = .ok (.ireturn, 1) := dk_172 (dk_at dksX4_read_3 5 rfl rfl)
theorem dX4_read_78 : decode cX4_read 78 = .ok (.iinc 3 1, 3) := dk_132 3 1 (dk_at dksX4_read_3 6 rfl rfl)
theorem dX4_read_81 : decode cX4_read 81 = .ok (.goto (-41), 3) := dk_167 255 215 (dk_at dksX4_read_3 9 rfl rfl)
theorem dX4_read_84 : decode cX4_read 84 = .ok (.iconst 0, 1) := dk_3 (dk_at dksX4_read_3 12 rfl rfl)
theorem dX4_read_85 : decode cX4_read 85 = .ok (.ireturn, 1) := dk_172 (dk_at dksX4_read_3 13 rfl rfl)
abbrev cX4_cutIntoTokens : ByteArray := prog_40_method_47_code
def yX4_cutIntoTokens : MethodName := ⟨RX4, "cutIntoTokens", "(LGridTableModel$Sheet;)V"⟩
def dkwX4_cutIntoTokens_4 : List UInt8 := [161, 0, 4, 177, 28, 43, 180, 0, 236, 29, 46, 96, 61, 132, 3, 1, 167, 255, 153, 177]
abbrev dktX4_cutIntoTokens_4 : List UInt8 := dkwX4_cutIntoTokens_4 ++ []
def dkwX4_cutIntoTokens_3 : List UInt8 := [46, 16, 60, 159, 0, 11, 43, 180, 0, 128, 29, 16, 61, 79, 43, 180, 0, 128, 29, 46, 16, 60]
abbrev dktX4_cutIntoTokens_3 : List UInt8 := dkwX4_cutIntoTokens_3 ++ dktX4_cutIntoTokens_4
def dkwX4_cutIntoTokens_2 : List UInt8 := [180, 0, 128, 29, 42, 43, 28, 29, 182, 1, 7, 79, 29, 17, 1, 144, 160, 0, 22, 43, 180, 0, 128, 29]
abbrev dktX4_cutIntoTokens_2 : List UInt8 := dkwX4_cutIntoTokens_2 ++ dktX4_cutIntoTokens_3
def dkwX4_cutIntoTokens_1 : List UInt8 := [182, 0, 227, 16, 10, 160, 0, 9, 132, 2, 1, 167, 255, 233, 43, 180, 1, 4, 29, 28, 79, 43]
abbrev dktX4_cutIntoTokens_1 : List UInt8 := dkwX4_cutIntoTokens_1 ++ dktX4_cutIntoTokens_2
def dkwX4_cutIntoTokens_0 : List UInt8 := [3, 61, 3, 62, 29, 17, 1, 144, 163, 0, 102, 42, 28, 182, 0, 227, 16, 32, 159, 0, 13, 42, 28]
abbrev dktX4_cutIntoTokens_0 : List UInt8 := dkwX4_cutIntoTokens_0 ++ dktX4_cutIntoTokens_1
theorem dksX4_cutIntoTokens_0 : cX4_cutIntoTokens.data.toList.drop 0 = dktX4_cutIntoTokens_0 := by decide +kernel
theorem dksX4_cutIntoTokens_1 : cX4_cutIntoTokens.data.toList.drop 23 = dktX4_cutIntoTokens_1 := dk_seg dksX4_cutIntoTokens_0 23 rfl rfl
theorem dksX4_cutIntoTokens_2 : cX4_cutIntoTokens.data.toList.drop 45 = dktX4_cutIntoTokens_2 := dk_seg dksX4_cutIntoTokens_1 22 rfl rfl
theorem dksX4_cutIntoTokens_3 : cX4_cutIntoTokens.data.toList.drop 69 = dktX4_cutIntoTokens_3 := dk_seg dksX4_cutIntoTokens_2 24 rfl rfl
theorem dksX4_cutIntoTokens_4 : cX4_cutIntoTokens.data.toList.drop 91 = dktX4_cutIntoTokens_4 := dk_seg dksX4_cutIntoTokens_3 22 rfl rfl
theorem dX4_cutIntoTokens_0 : decode cX4_cutIntoTokens 0 = .ok (.iconst 0, 1) := dk_3 (dk_at dksX4_cutIntoTokens_0 0 rfl rfl)
theorem dX4_cutIntoTokens_1 : decode cX4_cutIntoTokens 1 = .ok (.istore_n 2, 1) := dk_61 (dk_at dksX4_cutIntoTokens_0 1 rfl rfl)
theorem dX4_cutIntoTokens_2 : decode cX4_cutIntoTokens 2 = .ok (.iconst 0, 1) := dk_3 (dk_at dksX4_cutIntoTokens_0 2 rfl rfl)
theorem dX4_cutIntoTokens_3 : decode cX4_cutIntoTokens 3 = .ok (.istore_n 3, 1) := dk_62 (dk_at dksX4_cutIntoTokens_0 3 rfl rfl)
theorem dX4_cutIntoTokens_4 : decode cX4_cutIntoTokens 4 = .ok (.iload_n 3, 1) := dk_29 (dk_at dksX4_cutIntoTokens_0 4 rfl rfl)
theorem dX4_cutIntoTokens_5 : decode cX4_cutIntoTokens 5 = .ok (.sipush 400, 3) := dk_17 1 144 (dk_at dksX4_cutIntoTokens_0 5 rfl rfl)
theorem dX4_cutIntoTokens_8 : decode cX4_cutIntoTokens 8 = .ok (.if_icmp .gt 102, 3) := dk_163 0 102 (dk_at dksX4_cutIntoTokens_0 8 rfl rfl)
theorem dX4_cutIntoTokens_11 : decode cX4_cutIntoTokens 11 = .ok (.aload_n 0, 1) := dk_42 (dk_at dksX4_cutIntoTokens_0 11 rfl rfl)
theorem dX4_cutIntoTokens_12 : decode cX4_cutIntoTokens 12 = .ok (.iload_n 2, 1) := dk_28 (dk_at dksX4_cutIntoTokens_0 12 rfl rfl)
theorem dX4_cutIntoTokens_13 : decode cX4_cutIntoTokens 13 = .ok (.invokevirtual 227, 3) := dk_182 0 227 (dk_at dksX4_cutIntoTokens_0 13 rfl rfl)
theorem dX4_cutIntoTokens_16 : decode cX4_cutIntoTokens 16 = .ok (.bipush 32, 2) := dk_16 32 (dk_at dksX4_cutIntoTokens_0 16 rfl rfl)
theorem dX4_cutIntoTokens_18 : decode cX4_cutIntoTokens 18 = .ok (.if_icmp .eq 13, 3) := dk_159 0 13 (dk_at dksX4_cutIntoTokens_0 18 rfl rfl)
theorem dX4_cutIntoTokens_21 : decode cX4_cutIntoTokens 21 = .ok (.aload_n 0, 1) := dk_42 (dk_at dksX4_cutIntoTokens_0 21 rfl rfl)
theorem dX4_cutIntoTokens_22 : decode cX4_cutIntoTokens 22 = .ok (.iload_n 2, 1) := dk_28 (dk_at dksX4_cutIntoTokens_0 22 rfl rfl)
theorem dX4_cutIntoTokens_23 : decode cX4_cutIntoTokens 23 = .ok (.invokevirtual 227, 3) := dk_182 0 227 (dk_at dksX4_cutIntoTokens_1 0 rfl rfl)
theorem dX4_cutIntoTokens_26 : decode cX4_cutIntoTokens 26 = .ok (.bipush 10, 2) := dk_16 10 (dk_at dksX4_cutIntoTokens_1 3 rfl rfl)
theorem dX4_cutIntoTokens_28 : decode cX4_cutIntoTokens 28 = .ok (.if_icmp .ne 9, 3) := dk_160 0 9 (dk_at dksX4_cutIntoTokens_1 5 rfl rfl)
theorem dX4_cutIntoTokens_31 : decode cX4_cutIntoTokens 31 = .ok (.iinc 2 1, 3) := dk_132 2 1 (dk_at dksX4_cutIntoTokens_1 8 rfl rfl)
theorem dX4_cutIntoTokens_34 : decode cX4_cutIntoTokens 34 = .ok (.goto (-23), 3) := dk_167 255 233 (dk_at dksX4_cutIntoTokens_1 11 rfl rfl)
theorem dX4_cutIntoTokens_37 : decode cX4_cutIntoTokens 37 = .ok (.aload_n 1, 1) := dk_43 (dk_at dksX4_cutIntoTokens_1 14 rfl rfl)
theorem dX4_cutIntoTokens_38 : decode cX4_cutIntoTokens 38 = .ok (.getfield 260, 3) := dk_180 1 4 (dk_at dksX4_cutIntoTokens_1 15 rfl rfl)
theorem dX4_cutIntoTokens_41 : decode cX4_cutIntoTokens 41 = .ok (.iload_n 3, 1) := dk_29 (dk_at dksX4_cutIntoTokens_1 18 rfl rfl)
theorem dX4_cutIntoTokens_42 : decode cX4_cutIntoTokens 42 = .ok (.iload_n 2, 1) := dk_28 (dk_at dksX4_cutIntoTokens_1 19 rfl rfl)
theorem dX4_cutIntoTokens_43 : decode cX4_cutIntoTokens 43 = .ok (.iastore, 1) := dk_79 (dk_at dksX4_cutIntoTokens_1 20 rfl rfl)
theorem dX4_cutIntoTokens_44 : decode cX4_cutIntoTokens 44 = .ok (.aload_n 1, 1) := dk_43 (dk_at dksX4_cutIntoTokens_1 21 rfl rfl)
theorem dX4_cutIntoTokens_45 : decode cX4_cutIntoTokens 45 = .ok (.getfield 128, 3) := dk_180 0 128 (dk_at dksX4_cutIntoTokens_2 0 rfl rfl)
theorem dX4_cutIntoTokens_48 : decode cX4_cutIntoTokens 48 = .ok (.iload_n 3, 1) := dk_29 (dk_at dksX4_cutIntoTokens_2 3 rfl rfl)
theorem dX4_cutIntoTokens_49 : decode cX4_cutIntoTokens 49 = .ok (.aload_n 0, 1) := dk_42 (dk_at dksX4_cutIntoTokens_2 4 rfl rfl)
theorem dX4_cutIntoTokens_50 : decode cX4_cutIntoTokens 50 = .ok (.aload_n 1, 1) := dk_43 (dk_at dksX4_cutIntoTokens_2 5 rfl rfl)
theorem dX4_cutIntoTokens_51 : decode cX4_cutIntoTokens 51 = .ok (.iload_n 2, 1) := dk_28 (dk_at dksX4_cutIntoTokens_2 6 rfl rfl)
theorem dX4_cutIntoTokens_52 : decode cX4_cutIntoTokens 52 = .ok (.iload_n 3, 1) := dk_29 (dk_at dksX4_cutIntoTokens_2 7 rfl rfl)
theorem dX4_cutIntoTokens_53 : decode cX4_cutIntoTokens 53 = .ok (.invokevirtual 263, 3) := dk_182 1 7 (dk_at dksX4_cutIntoTokens_2 8 rfl rfl)
theorem dX4_cutIntoTokens_56 : decode cX4_cutIntoTokens 56 = .ok (.iastore, 1) := dk_79 (dk_at dksX4_cutIntoTokens_2 11 rfl rfl)
theorem dX4_cutIntoTokens_57 : decode cX4_cutIntoTokens 57 = .ok (.iload_n 3, 1) := dk_29 (dk_at dksX4_cutIntoTokens_2 12 rfl rfl)
theorem dX4_cutIntoTokens_58 : decode cX4_cutIntoTokens 58 = .ok (.sipush 400, 3) := dk_17 1 144 (dk_at dksX4_cutIntoTokens_2 13 rfl rfl)
theorem dX4_cutIntoTokens_61 : decode cX4_cutIntoTokens 61 = .ok (.if_icmp .ne 22, 3) := dk_160 0 22 (dk_at dksX4_cutIntoTokens_2 16 rfl rfl)
theorem dX4_cutIntoTokens_64 : decode cX4_cutIntoTokens 64 = .ok (.aload_n 1, 1) := dk_43 (dk_at dksX4_cutIntoTokens_2 19 rfl rfl)
theorem dX4_cutIntoTokens_65 : decode cX4_cutIntoTokens 65 = .ok (.getfield 128, 3) := dk_180 0 128 (dk_at dksX4_cutIntoTokens_2 20 rfl rfl)
theorem dX4_cutIntoTokens_68 : decode cX4_cutIntoTokens 68 = .ok (.iload_n 3, 1) := dk_29 (dk_at dksX4_cutIntoTokens_2 23 rfl rfl)
theorem dX4_cutIntoTokens_69 : decode cX4_cutIntoTokens 69 = .ok (.iaload, 1) := dk_46 (dk_at dksX4_cutIntoTokens_3 0 rfl rfl)
theorem dX4_cutIntoTokens_70 : decode cX4_cutIntoTokens 70 = .ok (.bipush 60, 2) := dk_16 60 (dk_at dksX4_cutIntoTokens_3 1 rfl rfl)
theorem dX4_cutIntoTokens_72 : decode cX4_cutIntoTokens 72 = .ok (.if_icmp .eq 11, 3) := dk_159 0 11 (dk_at dksX4_cutIntoTokens_3 3 rfl rfl)
theorem dX4_cutIntoTokens_75 : decode cX4_cutIntoTokens 75 = .ok (.aload_n 1, 1) := dk_43 (dk_at dksX4_cutIntoTokens_3 6 rfl rfl)
theorem dX4_cutIntoTokens_76 : decode cX4_cutIntoTokens 76 = .ok (.getfield 128, 3) := dk_180 0 128 (dk_at dksX4_cutIntoTokens_3 7 rfl rfl)
theorem dX4_cutIntoTokens_79 : decode cX4_cutIntoTokens 79 = .ok (.iload_n 3, 1) := dk_29 (dk_at dksX4_cutIntoTokens_3 10 rfl rfl)
theorem dX4_cutIntoTokens_80 : decode cX4_cutIntoTokens 80 = .ok (.bipush 61, 2) := dk_16 61 (dk_at dksX4_cutIntoTokens_3 11 rfl rfl)
theorem dX4_cutIntoTokens_82 : decode cX4_cutIntoTokens 82 = .ok (.iastore, 1) := dk_79 (dk_at dksX4_cutIntoTokens_3 13 rfl rfl)
theorem dX4_cutIntoTokens_83 : decode cX4_cutIntoTokens 83 = .ok (.aload_n 1, 1) := dk_43 (dk_at dksX4_cutIntoTokens_3 14 rfl rfl)
theorem dX4_cutIntoTokens_84 : decode cX4_cutIntoTokens 84 = .ok (.getfield 128, 3) := dk_180 0 128 (dk_at dksX4_cutIntoTokens_3 15 rfl rfl)
theorem dX4_cutIntoTokens_87 : decode cX4_cutIntoTokens 87 = .ok (.iload_n 3, 1) := dk_29 (dk_at dksX4_cutIntoTokens_3 18 rfl rfl)
theorem dX4_cutIntoTokens_88 : decode cX4_cutIntoTokens 88 = .ok (.iaload, 1) := dk_46 (dk_at dksX4_cutIntoTokens_3 19 rfl rfl)
theorem dX4_cutIntoTokens_89 : decode cX4_cutIntoTokens 89 = .ok (.bipush 60, 2) := dk_16 60 (dk_at dksX4_cutIntoTokens_3 20 rfl rfl)
theorem dX4_cutIntoTokens_91 : decode cX4_cutIntoTokens 91 = .ok (.if_icmp .lt 4, 3) := dk_161 0 4 (dk_at dksX4_cutIntoTokens_4 0 rfl rfl)
theorem dX4_cutIntoTokens_94 : decode cX4_cutIntoTokens 94 = .ok (.return_, 1) := dk_177 (dk_at dksX4_cutIntoTokens_4 3 rfl rfl)
theorem dX4_cutIntoTokens_95 : decode cX4_cutIntoTokens 95 = .ok (.iload_n 2, 1) := dk_28 (dk_at dksX4_cutIntoTokens_4 4 rfl rfl)
theorem dX4_cutIntoTokens_96 : decode cX4_cutIntoTokens 96 = .ok (.aload_n 1, 1) := dk_43 (dk_at dksX4_cutIntoTokens_4 5 rfl rfl)
theorem dX4_cutIntoTokens_97 : decode cX4_cutIntoTokens 97 = .ok (.getfield 236, 3) := dk_180 0 236 (dk_at dksX4_cutIntoTokens_4 6 rfl rfl)
theorem dX4_cutIntoTokens_100 : decode cX4_cutIntoTokens 100 = .ok (.iload_n 3, 1) := dk_29 (dk_at dksX4_cutIntoTokens_4 9 rfl rfl)
theorem dX4_cutIntoTokens_101 : decode cX4_cutIntoTokens 101 = .ok (.iaload, 1) := dk_46 (dk_at dksX4_cutIntoTokens_4 10 rfl rfl)
theorem dX4_cutIntoTokens_102 : decode cX4_cutIntoTokens 102 = .ok (.iadd, 1) := dk_96 (dk_at dksX4_cutIntoTokens_4 11 rfl rfl)
theorem dX4_cutIntoTokens_103 : decode cX4_cutIntoTokens 103 = .ok (.istore_n 2, 1) := dk_61 (dk_at dksX4_cutIntoTokens_4 12 rfl rfl)
theorem dX4_cutIntoTokens_104 : decode cX4_cutIntoTokens 104 = .ok (.iinc 3 1, 3) := dk_132 3 1 (dk_at dksX4_cutIntoTokens_4 13 rfl rfl)
theorem dX4_cutIntoTokens_107 : decode cX4_cutIntoTokens 107 = .ok (.goto (-103), 3) := dk_167 255 153 (dk_at dksX4_cutIntoTokens_4 16 rfl rfl)
theorem dX4_cutIntoTokens_110 : decode cX4_cutIntoTokens 110 = .ok (.return_, 1) := dk_177 (dk_at dksX4_cutIntoTokens_4 19 rfl rfl)
abbrev cX4_byteOf : ByteArray := prog_40_method_44_code
def yX4_byteOf : MethodName := ⟨RX4, "byteOf", "(I)I"⟩
def dkwX4_byteOf_0 : List UInt8 := [27, 42, 180, 0, 224, 162, 0, 12, 42, 180, 0, 9, 27, 46, 167, 0, 4, 2, 172]
abbrev dktX4_byteOf_0 : List UInt8 := dkwX4_byteOf_0 ++ []
theorem dksX4_byteOf_0 : cX4_byteOf.data.toList.drop 0 = dktX4_byteOf_0 := by decide +kernel
theorem dX4_byteOf_0 : decode cX4_byteOf 0 = .ok (.iload_n 1, 1) := dk_27 (dk_at dksX4_byteOf_0 0 rfl rfl)
theorem dX4_byteOf_1 : decode cX4_byteOf 1 = .ok (.aload_n 0, 1) := dk_42 (dk_at dksX4_byteOf_0 1 rfl rfl)
theorem dX4_byteOf_2 : decode cX4_byteOf 2 = .ok (.getfield 224, 3) := dk_180 0 224 (dk_at dksX4_byteOf_0 2 rfl rfl)
theorem dX4_byteOf_5 : decode cX4_byteOf 5 = .ok (.if_icmp .ge 12, 3) := dk_162 0 12 (dk_at dksX4_byteOf_0 5 rfl rfl)
theorem dX4_byteOf_8 : decode cX4_byteOf 8 = .ok (.aload_n 0, 1) := dk_42 (dk_at dksX4_byteOf_0 8 rfl rfl)
theorem dX4_byteOf_9 : decode cX4_byteOf 9 = .ok (.getfield 9, 3) := dk_180 0 9 (dk_at dksX4_byteOf_0 9 rfl rfl)
theorem dX4_byteOf_12 : decode cX4_byteOf 12 = .ok (.iload_n 1, 1) := dk_27 (dk_at dksX4_byteOf_0 12 rfl rfl)
theorem dX4_byteOf_13 : decode cX4_byteOf 13 = .ok (.iaload, 1) := dk_46 (dk_at dksX4_byteOf_0 13 rfl rfl)
theorem dX4_byteOf_14 : decode cX4_byteOf 14 = .ok (.goto 4, 3) := dk_167 0 4 (dk_at dksX4_byteOf_0 14 rfl rfl)
theorem dX4_byteOf_17 : decode cX4_byteOf 17 = .ok (.iconst (-1), 1) := dk_2 (dk_at dksX4_byteOf_0 17 rfl rfl)
theorem dX4_byteOf_18 : decode cX4_byteOf 18 = .ok (.ireturn, 1) := dk_172 (dk_at dksX4_byteOf_0 18 rfl rfl)
abbrev cX4_kindAt : ByteArray := prog_40_method_45_code
def yX4_kindAt : MethodName := ⟨RX4, "kindAt", "(LGridTableModel$Sheet;II)I"⟩
def dkwX4_kindAt_9 : List UInt8 := [167, 0, 18, 21, 6, 156, 0, 8, 16, 61, 167, 0, 8, 16, 22, 21, 6, 96, 172]
abbrev dktX4_kindAt_9 : List UInt8 := dkwX4_kindAt_9 ++ []
def dkwX4_kindAt_8 : List UInt8 := [54, 6, 21, 5, 28, 100, 5, 160, 0, 20, 21, 4, 16, 60, 160, 0, 8, 16, 35, 167, 0, 23, 16, 36]
abbrev dktX4_kindAt_8 : List UInt8 := dkwX4_kindAt_8 ++ dktX4_kindAt_9
def dkwX4_kindAt_7 : List UInt8 := [16, 61, 167, 0, 5, 16, 21, 172, 21, 4, 2, 160, 0, 6, 16, 60, 172, 18, 242, 21, 4, 182, 0, 244]
abbrev dktX4_kindAt_7 : List UInt8 := dkwX4_kindAt_7 ++ dktX4_kindAt_8
def dkwX4_kindAt_6 : List UInt8 := [28, 100, 182, 0, 239, 172, 21, 4, 184, 0, 233, 153, 0, 20, 21, 5, 28, 100, 16, 6, 164, 0, 8]
abbrev dktX4_kindAt_6 : List UInt8 := dkwX4_kindAt_6 ++ dktX4_kindAt_7
def dkwX4_kindAt_5 : List UInt8 := [184, 0, 230, 153, 0, 27, 21, 5, 28, 100, 16, 10, 164, 0, 8, 16, 61, 167, 0, 12, 42, 28, 21, 5]
abbrev dktX4_kindAt_5 : List UInt8 := dkwX4_kindAt_5 ++ dktX4_kindAt_6
def dkwX4_kindAt_4 : List UInt8 := [182, 0, 227, 16, 61, 160, 0, 6, 132, 5, 1, 43, 180, 0, 236, 29, 21, 5, 28, 100, 79, 21, 4]
abbrev dktX4_kindAt_4 : List UInt8 := dkwX4_kindAt_4 ++ dktX4_kindAt_5
def dkwX4_kindAt_3 : List UInt8 := [132, 5, 1, 167, 255, 241, 21, 4, 16, 60, 159, 0, 10, 21, 4, 16, 62, 160, 0, 17, 42, 21, 5]
abbrev dktX4_kindAt_3 : List UInt8 := dkwX4_kindAt_3 ++ dktX4_kindAt_4
def dkwX4_kindAt_2 : List UInt8 := [167, 255, 229, 21, 4, 184, 0, 233, 153, 0, 21, 42, 21, 5, 182, 0, 227, 184, 0, 233, 153, 0, 37]
abbrev dktX4_kindAt_2 : List UInt8 := dkwX4_kindAt_2 ++ dktX4_kindAt_3
def dkwX4_kindAt_1 : List UInt8 := [182, 0, 227, 184, 0, 230, 154, 0, 15, 42, 21, 5, 182, 0, 227, 184, 0, 233, 153, 0, 63, 132, 5, 1]
abbrev dktX4_kindAt_1 : List UInt8 := dkwX4_kindAt_1 ++ dktX4_kindAt_2
def dkwX4_kindAt_0 : List UInt8 := [42, 28, 182, 0, 227, 54, 4, 28, 4, 96, 54, 5, 21, 4, 184, 0, 230, 153, 0, 33, 42, 21, 5]
abbrev dktX4_kindAt_0 : List UInt8 := dkwX4_kindAt_0 ++ dktX4_kindAt_1
theorem dksX4_kindAt_0 : cX4_kindAt.data.toList.drop 0 = dktX4_kindAt_0 := by decide +kernel
theorem dksX4_kindAt_1 : cX4_kindAt.data.toList.drop 23 = dktX4_kindAt_1 := dk_seg dksX4_kindAt_0 23 rfl rfl
theorem dksX4_kindAt_2 : cX4_kindAt.data.toList.drop 47 = dktX4_kindAt_2 := dk_seg dksX4_kindAt_1 24 rfl rfl
theorem dksX4_kindAt_3 : cX4_kindAt.data.toList.drop 70 = dktX4_kindAt_3 := dk_seg dksX4_kindAt_2 23 rfl rfl
theorem dksX4_kindAt_4 : cX4_kindAt.data.toList.drop 93 = dktX4_kindAt_4 := dk_seg dksX4_kindAt_3 23 rfl rfl
theorem dksX4_kindAt_5 : cX4_kindAt.data.toList.drop 116 = dktX4_kindAt_5 := dk_seg dksX4_kindAt_4 23 rfl rfl
theorem dksX4_kindAt_6 : cX4_kindAt.data.toList.drop 140 = dktX4_kindAt_6 := dk_seg dksX4_kindAt_5 24 rfl rfl
theorem dksX4_kindAt_7 : cX4_kindAt.data.toList.drop 163 = dktX4_kindAt_7 := dk_seg dksX4_kindAt_6 23 rfl rfl
theorem dksX4_kindAt_8 : cX4_kindAt.data.toList.drop 187 = dktX4_kindAt_8 := dk_seg dksX4_kindAt_7 24 rfl rfl
theorem dksX4_kindAt_9 : cX4_kindAt.data.toList.drop 211 = dktX4_kindAt_9 := dk_seg dksX4_kindAt_8 24 rfl rfl
theorem dX4_kindAt_0 : decode cX4_kindAt 0 = .ok (.aload_n 0, 1) := dk_42 (dk_at dksX4_kindAt_0 0 rfl rfl)
theorem dX4_kindAt_1 : decode cX4_kindAt 1 = .ok (.iload_n 2, 1) := dk_28 (dk_at dksX4_kindAt_0 1 rfl rfl)
theorem dX4_kindAt_2 : decode cX4_kindAt 2 = .ok (.invokevirtual 227, 3) := dk_182 0 227 (dk_at dksX4_kindAt_0 2 rfl rfl)
theorem dX4_kindAt_5 : decode cX4_kindAt 5 = .ok (.istore 4, 2) := dk_54 4 (dk_at dksX4_kindAt_0 5 rfl rfl)
theorem dX4_kindAt_7 : decode cX4_kindAt 7 = .ok (.iload_n 2, 1) := dk_28 (dk_at dksX4_kindAt_0 7 rfl rfl)
theorem dX4_kindAt_8 : decode cX4_kindAt 8 = .ok (.iconst 1, 1) := dk_4 (dk_at dksX4_kindAt_0 8 rfl rfl)
theorem dX4_kindAt_9 : decode cX4_kindAt 9 = .ok (.iadd, 1) := dk_96 (dk_at dksX4_kindAt_0 9 rfl rfl)
theorem dX4_kindAt_10 : decode cX4_kindAt 10 = .ok (.istore 5, 2) := dk_54 5 (dk_at dksX4_kindAt_0 10 rfl rfl)
theorem dX4_kindAt_12 : decode cX4_kindAt 12 = .ok (.iload 4, 2) := dk_21 4 (dk_at dksX4_kindAt_0 12 rfl rfl)
theorem dX4_kindAt_14 : decode cX4_kindAt 14 = .ok (.invokestatic 230, 3) := dk_184 0 230 (dk_at dksX4_kindAt_0 14 rfl rfl)
theorem dX4_kindAt_17 : decode cX4_kindAt 17 = .ok (.ifCond .eq 33, 3) := dk_153 0 33 (dk_at dksX4_kindAt_0 17 rfl rfl)
theorem dX4_kindAt_20 : decode cX4_kindAt 20 = .ok (.aload_n 0, 1) := dk_42 (dk_at dksX4_kindAt_0 20 rfl rfl)
theorem dX4_kindAt_21 : decode cX4_kindAt 21 = .ok (.iload 5, 2) := dk_21 5 (dk_at dksX4_kindAt_0 21 rfl rfl)
theorem dX4_kindAt_23 : decode cX4_kindAt 23 = .ok (.invokevirtual 227, 3) := dk_182 0 227 (dk_at dksX4_kindAt_1 0 rfl rfl)
theorem dX4_kindAt_26 : decode cX4_kindAt 26 = .ok (.invokestatic 230, 3) := dk_184 0 230 (dk_at dksX4_kindAt_1 3 rfl rfl)
theorem dX4_kindAt_29 : decode cX4_kindAt 29 = .ok (.ifCond .ne 15, 3) := dk_154 0 15 (dk_at dksX4_kindAt_1 6 rfl rfl)
theorem dX4_kindAt_32 : decode cX4_kindAt 32 = .ok (.aload_n 0, 1) := dk_42 (dk_at dksX4_kindAt_1 9 rfl rfl)
theorem dX4_kindAt_33 : decode cX4_kindAt 33 = .ok (.iload 5, 2) := dk_21 5 (dk_at dksX4_kindAt_1 10 rfl rfl)
theorem dX4_kindAt_35 : decode cX4_kindAt 35 = .ok (.invokevirtual 227, 3) := dk_182 0 227 (dk_at dksX4_kindAt_1 12 rfl rfl)
theorem dX4_kindAt_38 : decode cX4_kindAt 38 = .ok (.invokestatic 233, 3) := dk_184 0 233 (dk_at dksX4_kindAt_1 15 rfl rfl)
theorem dX4_kindAt_41 : decode cX4_kindAt 41 = .ok (.ifCond .eq 63, 3) := dk_153 0 63 (dk_at dksX4_kindAt_1 18 rfl rfl)
theorem dX4_kindAt_44 : decode cX4_kindAt 44 = .ok (.iinc 5 1, 3) := dk_132 5 1 (dk_at dksX4_kindAt_1 21 rfl rfl)
theorem dX4_kindAt_47 : decode cX4_kindAt 47 = .ok (.goto (-27), 3) := dk_167 255 229 (dk_at dksX4_kindAt_2 0 rfl rfl)
theorem dX4_kindAt_50 : decode cX4_kindAt 50 = .ok (.iload 4, 2) := dk_21 4 (dk_at dksX4_kindAt_2 3 rfl rfl)
theorem dX4_kindAt_52 : decode cX4_kindAt 52 = .ok (.invokestatic 233, 3) := dk_184 0 233 (dk_at dksX4_kindAt_2 5 rfl rfl)
theorem dX4_kindAt_55 : decode cX4_kindAt 55 = .ok (.ifCond .eq 21, 3) := dk_153 0 21 (dk_at dksX4_kindAt_2 8 rfl rfl)
theorem dX4_kindAt_58 : decode cX4_kindAt 58 = .ok (.aload_n 0, 1) := dk_42 (dk_at dksX4_kindAt_2 11 rfl rfl)
theorem dX4_kindAt_59 : decode cX4_kindAt 59 = .ok (.iload 5, 2) := dk_21 5 (dk_at dksX4_kindAt_2 12 rfl rfl)
theorem dX4_kindAt_61 : decode cX4_kindAt 61 = .ok (.invokevirtual 227, 3) := dk_182 0 227 (dk_at dksX4_kindAt_2 14 rfl rfl)
theorem dX4_kindAt_64 : decode cX4_kindAt 64 = .ok (.invokestatic 233, 3) := dk_184 0 233 (dk_at dksX4_kindAt_2 17 rfl rfl)
theorem dX4_kindAt_67 : decode cX4_kindAt 67 = .ok (.ifCond .eq 37, 3) := dk_153 0 37 (dk_at dksX4_kindAt_2 20 rfl rfl)
theorem dX4_kindAt_70 : decode cX4_kindAt 70 = .ok (.iinc 5 1, 3) := dk_132 5 1 (dk_at dksX4_kindAt_3 0 rfl rfl)
theorem dX4_kindAt_73 : decode cX4_kindAt 73 = .ok (.goto (-15), 3) := dk_167 255 241 (dk_at dksX4_kindAt_3 3 rfl rfl)
theorem dX4_kindAt_76 : decode cX4_kindAt 76 = .ok (.iload 4, 2) := dk_21 4 (dk_at dksX4_kindAt_3 6 rfl rfl)
theorem dX4_kindAt_78 : decode cX4_kindAt 78 = .ok (.bipush 60, 2) := dk_16 60 (dk_at dksX4_kindAt_3 8 rfl rfl)
theorem dX4_kindAt_80 : decode cX4_kindAt 80 = .ok (.if_icmp .eq 10, 3) := dk_159 0 10 (dk_at dksX4_kindAt_3 10 rfl rfl)
theorem dX4_kindAt_83 : decode cX4_kindAt 83 = .ok (.iload 4, 2) := dk_21 4 (dk_at dksX4_kindAt_3 13 rfl rfl)
theorem dX4_kindAt_85 : decode cX4_kindAt 85 = .ok (.bipush 62, 2) := dk_16 62 (dk_at dksX4_kindAt_3 15 rfl rfl)
theorem dX4_kindAt_87 : decode cX4_kindAt 87 = .ok (.if_icmp .ne 17, 3) := dk_160 0 17 (dk_at dksX4_kindAt_3 17 rfl rfl)
theorem dX4_kindAt_90 : decode cX4_kindAt 90 = .ok (.aload_n 0, 1) := dk_42 (dk_at dksX4_kindAt_3 20 rfl rfl)
theorem dX4_kindAt_91 : decode cX4_kindAt 91 = .ok (.iload 5, 2) := dk_21 5 (dk_at dksX4_kindAt_3 21 rfl rfl)
theorem dX4_kindAt_93 : decode cX4_kindAt 93 = .ok (.invokevirtual 227, 3) := dk_182 0 227 (dk_at dksX4_kindAt_4 0 rfl rfl)
theorem dX4_kindAt_96 : decode cX4_kindAt 96 = .ok (.bipush 61, 2) := dk_16 61 (dk_at dksX4_kindAt_4 3 rfl rfl)
theorem dX4_kindAt_98 : decode cX4_kindAt 98 = .ok (.if_icmp .ne 6, 3) := dk_160 0 6 (dk_at dksX4_kindAt_4 5 rfl rfl)
theorem dX4_kindAt_101 : decode cX4_kindAt 101 = .ok (.iinc 5 1, 3) := dk_132 5 1 (dk_at dksX4_kindAt_4 8 rfl rfl)
theorem dX4_kindAt_104 : decode cX4_kindAt 104 = .ok (.aload_n 1, 1) := dk_43 (dk_at dksX4_kindAt_4 11 rfl rfl)
theorem dX4_kindAt_105 : decode cX4_kindAt 105 = .ok (.getfield 236, 3) := dk_180 0 236 (dk_at dksX4_kindAt_4 12 rfl rfl)
theorem dX4_kindAt_108 : decode cX4_kindAt 108 = .ok (.iload_n 3, 1) := dk_29 (dk_at dksX4_kindAt_4 15 rfl rfl)
theorem dX4_kindAt_109 : decode cX4_kindAt 109 = .ok (.iload 5, 2) := dk_21 5 (dk_at dksX4_kindAt_4 16 rfl rfl)
theorem dX4_kindAt_111 : decode cX4_kindAt 111 = .ok (.iload_n 2, 1) := dk_28 (dk_at dksX4_kindAt_4 18 rfl rfl)
theorem dX4_kindAt_112 : decode cX4_kindAt 112 = .ok (.isub, 1) := dk_100 (dk_at dksX4_kindAt_4 19 rfl rfl)
theorem dX4_kindAt_113 : decode cX4_kindAt 113 = .ok (.iastore, 1) := dk_79 (dk_at dksX4_kindAt_4 20 rfl rfl)
theorem dX4_kindAt_114 : decode cX4_kindAt 114 = .ok (.iload 4, 2) := dk_21 4 (dk_at dksX4_kindAt_4 21 rfl rfl)
theorem dX4_kindAt_116 : decode cX4_kindAt 116 = .ok (.invokestatic 230, 3) := dk_184 0 230 (dk_at dksX4_kindAt_5 0 rfl rfl)
theorem dX4_kindAt_119 : decode cX4_kindAt 119 = .ok (.ifCond .eq 27, 3) := dk_153 0 27 (dk_at dksX4_kindAt_5 3 rfl rfl)
theorem dX4_kindAt_122 : decode cX4_kindAt 122 = .ok (.iload 5, 2) := dk_21 5 (dk_at dksX4_kindAt_5 6 rfl rfl)
theorem dX4_kindAt_124 : decode cX4_kindAt 124 = .ok (.iload_n 2, 1) := dk_28 (dk_at dksX4_kindAt_5 8 rfl rfl)
theorem dX4_kindAt_125 : decode cX4_kindAt 125 = .ok (.isub, 1) := dk_100 (dk_at dksX4_kindAt_5 9 rfl rfl)
theorem dX4_kindAt_126 : decode cX4_kindAt 126 = .ok (.bipush 10, 2) := dk_16 10 (dk_at dksX4_kindAt_5 10 rfl rfl)
theorem dX4_kindAt_128 : decode cX4_kindAt 128 = .ok (.if_icmp .le 8, 3) := dk_164 0 8 (dk_at dksX4_kindAt_5 12 rfl rfl)
theorem dX4_kindAt_131 : decode cX4_kindAt 131 = .ok (.bipush 61, 2) := dk_16 61 (dk_at dksX4_kindAt_5 15 rfl rfl)
theorem dX4_kindAt_133 : decode cX4_kindAt 133 = .ok (.goto 12, 3) := dk_167 0 12 (dk_at dksX4_kindAt_5 17 rfl rfl)
theorem dX4_kindAt_136 : decode cX4_kindAt 136 = .ok (.aload_n 0, 1) := dk_42 (dk_at dksX4_kindAt_5 20 rfl rfl)
theorem dX4_kindAt_137 : decode cX4_kindAt 137 = .ok (.iload_n 2, 1) := dk_28 (dk_at dksX4_kindAt_5 21 rfl rfl)
theorem dX4_kindAt_138 : decode cX4_kindAt 138 = .ok (.iload 5, 2) := dk_21 5 (dk_at dksX4_kindAt_5 22 rfl rfl)
theorem dX4_kindAt_140 : decode cX4_kindAt 140 = .ok (.iload_n 2, 1) := dk_28 (dk_at dksX4_kindAt_6 0 rfl rfl)
theorem dX4_kindAt_141 : decode cX4_kindAt 141 = .ok (.isub, 1) := dk_100 (dk_at dksX4_kindAt_6 1 rfl rfl)
theorem dX4_kindAt_142 : decode cX4_kindAt 142 = .ok (.invokevirtual 239, 3) := dk_182 0 239 (dk_at dksX4_kindAt_6 2 rfl rfl)
theorem dX4_kindAt_145 : decode cX4_kindAt 145 = .ok (.ireturn, 1) := dk_172 (dk_at dksX4_kindAt_6 5 rfl rfl)
theorem dX4_kindAt_146 : decode cX4_kindAt 146 = .ok (.iload 4, 2) := dk_21 4 (dk_at dksX4_kindAt_6 6 rfl rfl)
theorem dX4_kindAt_148 : decode cX4_kindAt 148 = .ok (.invokestatic 233, 3) := dk_184 0 233 (dk_at dksX4_kindAt_6 8 rfl rfl)
theorem dX4_kindAt_151 : decode cX4_kindAt 151 = .ok (.ifCond .eq 20, 3) := dk_153 0 20 (dk_at dksX4_kindAt_6 11 rfl rfl)
theorem dX4_kindAt_154 : decode cX4_kindAt 154 = .ok (.iload 5, 2) := dk_21 5 (dk_at dksX4_kindAt_6 14 rfl rfl)
theorem dX4_kindAt_156 : decode cX4_kindAt 156 = .ok (.iload_n 2, 1) := dk_28 (dk_at dksX4_kindAt_6 16 rfl rfl)
theorem dX4_kindAt_157 : decode cX4_kindAt 157 = .ok (.isub, 1) := dk_100 (dk_at dksX4_kindAt_6 17 rfl rfl)
theorem dX4_kindAt_158 : decode cX4_kindAt 158 = .ok (.bipush 6, 2) := dk_16 6 (dk_at dksX4_kindAt_6 18 rfl rfl)
theorem dX4_kindAt_160 : decode cX4_kindAt 160 = .ok (.if_icmp .le 8, 3) := dk_164 0 8 (dk_at dksX4_kindAt_6 20 rfl rfl)
theorem dX4_kindAt_163 : decode cX4_kindAt 163 = .ok (.bipush 61, 2) := dk_16 61 (dk_at dksX4_kindAt_7 0 rfl rfl)
theorem dX4_kindAt_165 : decode cX4_kindAt 165 = .ok (.goto 5, 3) := dk_167 0 5 (dk_at dksX4_kindAt_7 2 rfl rfl)
theorem dX4_kindAt_168 : decode cX4_kindAt 168 = .ok (.bipush 21, 2) := dk_16 21 (dk_at dksX4_kindAt_7 5 rfl rfl)
theorem dX4_kindAt_170 : decode cX4_kindAt 170 = .ok (.ireturn, 1) := dk_172 (dk_at dksX4_kindAt_7 7 rfl rfl)
theorem dX4_kindAt_171 : decode cX4_kindAt 171 = .ok (.iload 4, 2) := dk_21 4 (dk_at dksX4_kindAt_7 8 rfl rfl)
theorem dX4_kindAt_173 : decode cX4_kindAt 173 = .ok (.iconst (-1), 1) := dk_2 (dk_at dksX4_kindAt_7 10 rfl rfl)
theorem dX4_kindAt_174 : decode cX4_kindAt 174 = .ok (.if_icmp .ne 6, 3) := dk_160 0 6 (dk_at dksX4_kindAt_7 11 rfl rfl)
theorem dX4_kindAt_177 : decode cX4_kindAt 177 = .ok (.bipush 60, 2) := dk_16 60 (dk_at dksX4_kindAt_7 14 rfl rfl)
theorem dX4_kindAt_179 : decode cX4_kindAt 179 = .ok (.ireturn, 1) := dk_172 (dk_at dksX4_kindAt_7 16 rfl rfl)
theorem dX4_kindAt_180 : decode cX4_kindAt 180 = .ok (.ldc 242, 2) := dk_18 242 (dk_at dksX4_kindAt_7 17 rfl rfl)
theorem dX4_kindAt_182 : decode cX4_kindAt 182 = .ok (.iload 4, 2) := dk_21 4 (dk_at dksX4_kindAt_7 19 rfl rfl)
theorem dX4_kindAt_184 : decode cX4_kindAt 184 = .ok (.invokevirtual 244, 3) := dk_182 0 244 (dk_at dksX4_kindAt_7 21 rfl rfl)
theorem dX4_kindAt_187 : decode cX4_kindAt 187 = .ok (.istore 6, 2) := dk_54 6 (dk_at dksX4_kindAt_8 0 rfl rfl)
theorem dX4_kindAt_189 : decode cX4_kindAt 189 = .ok (.iload 5, 2) := dk_21 5 (dk_at dksX4_kindAt_8 2 rfl rfl)
theorem dX4_kindAt_191 : decode cX4_kindAt 191 = .ok (.iload_n 2, 1) := dk_28 (dk_at dksX4_kindAt_8 4 rfl rfl)
theorem dX4_kindAt_192 : decode cX4_kindAt 192 = .ok (.isub, 1) := dk_100 (dk_at dksX4_kindAt_8 5 rfl rfl)
theorem dX4_kindAt_193 : decode cX4_kindAt 193 = .ok (.iconst 2, 1) := dk_5 (dk_at dksX4_kindAt_8 6 rfl rfl)
theorem dX4_kindAt_194 : decode cX4_kindAt 194 = .ok (.if_icmp .ne 20, 3) := dk_160 0 20 (dk_at dksX4_kindAt_8 7 rfl rfl)
theorem dX4_kindAt_197 : decode cX4_kindAt 197 = .ok (.iload 4, 2) := dk_21 4 (dk_at dksX4_kindAt_8 10 rfl rfl)
theorem dX4_kindAt_199 : decode cX4_kindAt 199 = .ok (.bipush 60, 2) := dk_16 60 (dk_at dksX4_kindAt_8 12 rfl rfl)
theorem dX4_kindAt_201 : decode cX4_kindAt 201 = .ok (.if_icmp .ne 8, 3) := dk_160 0 8 (dk_at dksX4_kindAt_8 14 rfl rfl)
theorem dX4_kindAt_204 : decode cX4_kindAt 204 = .ok (.bipush 35, 2) := dk_16 35 (dk_at dksX4_kindAt_8 17 rfl rfl)
theorem dX4_kindAt_206 : decode cX4_kindAt 206 = .ok (.goto 23, 3) := dk_167 0 23 (dk_at dksX4_kindAt_8 19 rfl rfl)
theorem dX4_kindAt_209 : decode cX4_kindAt 209 = .ok (.bipush 36, 2) := dk_16 36 (dk_at dksX4_kindAt_8 22 rfl rfl)
theorem dX4_kindAt_211 : decode cX4_kindAt 211 = .ok (.goto 18, 3) := dk_167 0 18 (dk_at dksX4_kindAt_9 0 rfl rfl)
theorem dX4_kindAt_214 : decode cX4_kindAt 214 = .ok (.iload 6, 2) := dk_21 6 (dk_at dksX4_kindAt_9 3 rfl rfl)
theorem dX4_kindAt_216 : decode cX4_kindAt 216 = .ok (.ifCond .ge 8, 3) := dk_156 0 8 (dk_at dksX4_kindAt_9 5 rfl rfl)
theorem dX4_kindAt_219 : decode cX4_kindAt 219 = .ok (.bipush 61, 2) := dk_16 61 (dk_at dksX4_kindAt_9 8 rfl rfl)
theorem dX4_kindAt_221 : decode cX4_kindAt 221 = .ok (.goto 8, 3) := dk_167 0 8 (dk_at dksX4_kindAt_9 10 rfl rfl)
theorem dX4_kindAt_224 : decode cX4_kindAt 224 = .ok (.bipush 22, 2) := dk_16 22 (dk_at dksX4_kindAt_9 13 rfl rfl)
theorem dX4_kindAt_226 : decode cX4_kindAt 226 = .ok (.iload 6, 2) := dk_21 6 (dk_at dksX4_kindAt_9 15 rfl rfl)
theorem dX4_kindAt_228 : decode cX4_kindAt 228 = .ok (.iadd, 1) := dk_96 (dk_at dksX4_kindAt_9 17 rfl rfl)
theorem dX4_kindAt_229 : decode cX4_kindAt 229 = .ok (.ireturn, 1) := dk_172 (dk_at dksX4_kindAt_9 18 rfl rfl)
abbrev cX4_isSmall : ByteArray := prog_40_method_42_code
def yX4_isSmall : MethodName := ⟨RX4, "isSmall", "(I)Z"⟩
def dkwX4_isSmall_0 : List UInt8 := [26, 16, 97, 161, 0, 13, 26, 16, 122, 163, 0, 7, 4, 167, 0, 4, 3, 172]
abbrev dktX4_isSmall_0 : List UInt8 := dkwX4_isSmall_0 ++ []
theorem dksX4_isSmall_0 : cX4_isSmall.data.toList.drop 0 = dktX4_isSmall_0 := by decide +kernel
theorem dX4_isSmall_0 : decode cX4_isSmall 0 = .ok (.iload_n 0, 1) := dk_26 (dk_at dksX4_isSmall_0 0 rfl rfl)
theorem dX4_isSmall_1 : decode cX4_isSmall 1 = .ok (.bipush 97, 2) := dk_16 97 (dk_at dksX4_isSmall_0 1 rfl rfl)
theorem dX4_isSmall_3 : decode cX4_isSmall 3 = .ok (.if_icmp .lt 13, 3) := dk_161 0 13 (dk_at dksX4_isSmall_0 3 rfl rfl)
theorem dX4_isSmall_6 : decode cX4_isSmall 6 = .ok (.iload_n 0, 1) := dk_26 (dk_at dksX4_isSmall_0 6 rfl rfl)
theorem dX4_isSmall_7 : decode cX4_isSmall 7 = .ok (.bipush 122, 2) := dk_16 122 (dk_at dksX4_isSmall_0 7 rfl rfl)
theorem dX4_isSmall_9 : decode cX4_isSmall 9 = .ok (.if_icmp .gt 7, 3) := dk_163 0 7 (dk_at dksX4_isSmall_0 9 rfl rfl)
theorem dX4_isSmall_12 : decode cX4_isSmall 12 = .ok (.iconst 1, 1) := dk_4 (dk_at dksX4_isSmall_0 12 rfl rfl)
theorem dX4_isSmall_13 : decode cX4_isSmall 13 = .ok (.goto 4, 3) := dk_167 0 4 (dk_at dksX4_isSmall_0 13 rfl rfl)
theorem dX4_isSmall_16 : decode cX4_isSmall 16 = .ok (.iconst 0, 1) := dk_3 (dk_at dksX4_isSmall_0 16 rfl rfl)
theorem dX4_isSmall_17 : decode cX4_isSmall 17 = .ok (.ireturn, 1) := dk_172 (dk_at dksX4_isSmall_0 17 rfl rfl)
abbrev cX4_isDigit : ByteArray := prog_40_method_43_code
def yX4_isDigit : MethodName := ⟨RX4, "isDigit", "(I)Z"⟩
def dkwX4_isDigit_0 : List UInt8 := [26, 16, 48, 161, 0, 13, 26, 16, 57, 163, 0, 7, 4, 167, 0, 4, 3, 172]
abbrev dktX4_isDigit_0 : List UInt8 := dkwX4_isDigit_0 ++ []
theorem dksX4_isDigit_0 : cX4_isDigit.data.toList.drop 0 = dktX4_isDigit_0 := by decide +kernel
theorem dX4_isDigit_0 : decode cX4_isDigit 0 = .ok (.iload_n 0, 1) := dk_26 (dk_at dksX4_isDigit_0 0 rfl rfl)
theorem dX4_isDigit_1 : decode cX4_isDigit 1 = .ok (.bipush 48, 2) := dk_16 48 (dk_at dksX4_isDigit_0 1 rfl rfl)
theorem dX4_isDigit_3 : decode cX4_isDigit 3 = .ok (.if_icmp .lt 13, 3) := dk_161 0 13 (dk_at dksX4_isDigit_0 3 rfl rfl)
theorem dX4_isDigit_6 : decode cX4_isDigit 6 = .ok (.iload_n 0, 1) := dk_26 (dk_at dksX4_isDigit_0 6 rfl rfl)
theorem dX4_isDigit_7 : decode cX4_isDigit 7 = .ok (.bipush 57, 2) := dk_16 57 (dk_at dksX4_isDigit_0 7 rfl rfl)
theorem dX4_isDigit_9 : decode cX4_isDigit 9 = .ok (.if_icmp .gt 7, 3) := dk_163 0 7 (dk_at dksX4_isDigit_0 9 rfl rfl)
theorem dX4_isDigit_12 : decode cX4_isDigit 12 = .ok (.iconst 1, 1) := dk_4 (dk_at dksX4_isDigit_0 12 rfl rfl)
theorem dX4_isDigit_13 : decode cX4_isDigit 13 = .ok (.goto 4, 3) := dk_167 0 4 (dk_at dksX4_isDigit_0 13 rfl rfl)
theorem dX4_isDigit_16 : decode cX4_isDigit 16 = .ok (.iconst 0, 1) := dk_3 (dk_at dksX4_isDigit_0 16 rfl rfl)
theorem dX4_isDigit_17 : decode cX4_isDigit 17 = .ok (.ireturn, 1) := dk_172 (dk_at dksX4_isDigit_0 17 rfl rfl)
abbrev cX4_word : ByteArray := prog_40_method_46_code
def yX4_word : MethodName := ⟨RX4, "word", "(II)I"⟩
def dkwX4_word_3 : List UInt8 := [54, 4, 132, 5, 1, 167, 255, 213, 21, 4, 153, 0, 5, 29, 172, 132, 3, 1, 167, 255, 170, 16, 20, 172]
abbrev dktX4_word_3 : List UInt8 := dkwX4_word_3 ++ []
def dkwX4_word_2 : List UInt8 := [50, 21, 5, 182, 1, 0, 42, 180, 0, 9, 27, 21, 5, 96, 46, 160, 0, 7, 4, 167, 0, 4, 3]
abbrev dktX4_word_2 : List UInt8 := dkwX4_word_2 ++ dktX4_word_3
def dkwX4_word_1 : List UInt8 := [167, 0, 4, 3, 54, 4, 3, 54, 5, 21, 4, 153, 0, 44, 21, 5, 28, 162, 0, 38, 178, 0, 249, 29]
abbrev dktX4_word_1 : List UInt8 := dkwX4_word_1 ++ dktX4_word_2
def dkwX4_word_0 : List UInt8 := [3, 62, 29, 178, 0, 249, 190, 162, 0, 84, 178, 0, 249, 29, 50, 182, 0, 253, 28, 160, 0, 7, 4]
abbrev dktX4_word_0 : List UInt8 := dkwX4_word_0 ++ dktX4_word_1
theorem dksX4_word_0 : cX4_word.data.toList.drop 0 = dktX4_word_0 := by decide +kernel
theorem dksX4_word_1 : cX4_word.data.toList.drop 23 = dktX4_word_1 := dk_seg dksX4_word_0 23 rfl rfl
theorem dksX4_word_2 : cX4_word.data.toList.drop 47 = dktX4_word_2 := dk_seg dksX4_word_1 24 rfl rfl
theorem dksX4_word_3 : cX4_word.data.toList.drop 70 = dktX4_word_3 := dk_seg dksX4_word_2 23 rfl rfl
theorem dX4_word_0 : decode cX4_word 0 = .ok (.iconst 0, 1) := dk_3 (dk_at dksX4_word_0 0 rfl rfl)
theorem dX4_word_1 : decode cX4_word 1 = .ok (.istore_n 3, 1) := dk_62 (dk_at dksX4_word_0 1 rfl rfl)
theorem dX4_word_2 : decode cX4_word 2 = .ok (.iload_n 3, 1) := dk_29 (dk_at dksX4_word_0 2 rfl rfl)
theorem dX4_word_3 : decode cX4_word 3 = .ok (.getstatic 249, 3) := dk_178 0 249 (dk_at dksX4_word_0 3 rfl rfl)
theorem dX4_word_6 : decode cX4_word 6 = .ok (.arraylength, 1) := dk_190 (dk_at dksX4_word_0 6 rfl rfl)
theorem dX4_word_7 : decode cX4_word 7 = .ok (.if_icmp .ge 84, 3) := dk_162 0 84 (dk_at dksX4_word_0 7 rfl rfl)
theorem dX4_word_10 : decode cX4_word 10 = .ok (.getstatic 249, 3) := dk_178 0 249 (dk_at dksX4_word_0 10 rfl rfl)
theorem dX4_word_13 : decode cX4_word 13 = .ok (.iload_n 3, 1) := dk_29 (dk_at dksX4_word_0 13 rfl rfl)
theorem dX4_word_14 : decode cX4_word 14 = .ok (.aaload, 1) := dk_50 (dk_at dksX4_word_0 14 rfl rfl)
theorem dX4_word_15 : decode cX4_word 15 = .ok (.invokevirtual 253, 3) := dk_182 0 253 (dk_at dksX4_word_0 15 rfl rfl)
theorem dX4_word_18 : decode cX4_word 18 = .ok (.iload_n 2, 1) := dk_28 (dk_at dksX4_word_0 18 rfl rfl)
theorem dX4_word_19 : decode cX4_word 19 = .ok (.if_icmp .ne 7, 3) := dk_160 0 7 (dk_at dksX4_word_0 19 rfl rfl)
theorem dX4_word_22 : decode cX4_word 22 = .ok (.iconst 1, 1) := dk_4 (dk_at dksX4_word_0 22 rfl rfl)
theorem dX4_word_23 : decode cX4_word 23 = .ok (.goto 4, 3) := dk_167 0 4 (dk_at dksX4_word_1 0 rfl rfl)
theorem dX4_word_26 : decode cX4_word 26 = .ok (.iconst 0, 1) := dk_3 (dk_at dksX4_word_1 3 rfl rfl)
theorem dX4_word_27 : decode cX4_word 27 = .ok (.istore 4, 2) := dk_54 4 (dk_at dksX4_word_1 4 rfl rfl)
theorem dX4_word_29 : decode cX4_word 29 = .ok (.iconst 0, 1) := dk_3 (dk_at dksX4_word_1 6 rfl rfl)
theorem dX4_word_30 : decode cX4_word 30 = .ok (.istore 5, 2) := dk_54 5 (dk_at dksX4_word_1 7 rfl rfl)
theorem dX4_word_32 : decode cX4_word 32 = .ok (.iload 4, 2) := dk_21 4 (dk_at dksX4_word_1 9 rfl rfl)
theorem dX4_word_34 : decode cX4_word 34 = .ok (.ifCond .eq 44, 3) := dk_153 0 44 (dk_at dksX4_word_1 11 rfl rfl)
theorem dX4_word_37 : decode cX4_word 37 = .ok (.iload 5, 2) := dk_21 5 (dk_at dksX4_word_1 14 rfl rfl)
theorem dX4_word_39 : decode cX4_word 39 = .ok (.iload_n 2, 1) := dk_28 (dk_at dksX4_word_1 16 rfl rfl)
theorem dX4_word_40 : decode cX4_word 40 = .ok (.if_icmp .ge 38, 3) := dk_162 0 38 (dk_at dksX4_word_1 17 rfl rfl)
theorem dX4_word_43 : decode cX4_word 43 = .ok (.getstatic 249, 3) := dk_178 0 249 (dk_at dksX4_word_1 20 rfl rfl)
theorem dX4_word_46 : decode cX4_word 46 = .ok (.iload_n 3, 1) := dk_29 (dk_at dksX4_word_1 23 rfl rfl)
theorem dX4_word_47 : decode cX4_word 47 = .ok (.aaload, 1) := dk_50 (dk_at dksX4_word_2 0 rfl rfl)
theorem dX4_word_48 : decode cX4_word 48 = .ok (.iload 5, 2) := dk_21 5 (dk_at dksX4_word_2 1 rfl rfl)
theorem dX4_word_50 : decode cX4_word 50 = .ok (.invokevirtual 256, 3) := dk_182 1 0 (dk_at dksX4_word_2 3 rfl rfl)
theorem dX4_word_53 : decode cX4_word 53 = .ok (.aload_n 0, 1) := dk_42 (dk_at dksX4_word_2 6 rfl rfl)
theorem dX4_word_54 : decode cX4_word 54 = .ok (.getfield 9, 3) := dk_180 0 9 (dk_at dksX4_word_2 7 rfl rfl)
theorem dX4_word_57 : decode cX4_word 57 = .ok (.iload_n 1, 1) := dk_27 (dk_at dksX4_word_2 10 rfl rfl)
theorem dX4_word_58 : decode cX4_word 58 = .ok (.iload 5, 2) := dk_21 5 (dk_at dksX4_word_2 11 rfl rfl)
theorem dX4_word_60 : decode cX4_word 60 = .ok (.iadd, 1) := dk_96 (dk_at dksX4_word_2 13 rfl rfl)
theorem dX4_word_61 : decode cX4_word 61 = .ok (.iaload, 1) := dk_46 (dk_at dksX4_word_2 14 rfl rfl)
theorem dX4_word_62 : decode cX4_word 62 = .ok (.if_icmp .ne 7, 3) := dk_160 0 7 (dk_at dksX4_word_2 15 rfl rfl)
theorem dX4_word_65 : decode cX4_word 65 = .ok (.iconst 1, 1) := dk_4 (dk_at dksX4_word_2 18 rfl rfl)
theorem dX4_word_66 : decode cX4_word 66 = .ok (.goto 4, 3) := dk_167 0 4 (dk_at dksX4_word_2 19 rfl rfl)
theorem dX4_word_69 : decode cX4_word 69 = .ok (.iconst 0, 1) := dk_3 (dk_at dksX4_word_2 22 rfl rfl)
theorem dX4_word_70 : decode cX4_word 70 = .ok (.istore 4, 2) := dk_54 4 (dk_at dksX4_word_3 0 rfl rfl)
theorem dX4_word_72 : decode cX4_word 72 = .ok (.iinc 5 1, 3) := dk_132 5 1 (dk_at dksX4_word_3 2 rfl rfl)
theorem dX4_word_75 : decode cX4_word 75 = .ok (.goto (-43), 3) := dk_167 255 213 (dk_at dksX4_word_3 5 rfl rfl)
theorem dX4_word_78 : decode cX4_word 78 = .ok (.iload 4, 2) := dk_21 4 (dk_at dksX4_word_3 8 rfl rfl)
theorem dX4_word_80 : decode cX4_word 80 = .ok (.ifCond .eq 5, 3) := dk_153 0 5 (dk_at dksX4_word_3 10 rfl rfl)
theorem dX4_word_83 : decode cX4_word 83 = .ok (.iload_n 3, 1) := dk_29 (dk_at dksX4_word_3 13 rfl rfl)
theorem dX4_word_84 : decode cX4_word 84 = .ok (.ireturn, 1) := dk_172 (dk_at dksX4_word_3 14 rfl rfl)
theorem dX4_word_85 : decode cX4_word 85 = .ok (.iinc 3 1, 3) := dk_132 3 1 (dk_at dksX4_word_3 15 rfl rfl)
theorem dX4_word_88 : decode cX4_word 88 = .ok (.goto (-86), 3) := dk_167 255 170 (dk_at dksX4_word_3 18 rfl rfl)
theorem dX4_word_91 : decode cX4_word 91 = .ok (.bipush 20, 2) := dk_16 20 (dk_at dksX4_word_3 21 rfl rfl)
theorem dX4_word_93 : decode cX4_word 93 = .ok (.ireturn, 1) := dk_172 (dk_at dksX4_word_3 23 rfl rfl)
abbrev cX4_isList : ByteArray := prog_40_method_51_code
def yX4_isList : MethodName := ⟨RX4, "isList", "(LGridTableModel$Sheet;)Z"⟩
def dkwX4_isList_1 : List UInt8 := [4, 188, 10, 89, 3, 16, 23, 79, 182, 1, 17, 154, 255, 221, 3, 172, 4, 172]
abbrev dktX4_isList_1 : List UInt8 := dkwX4_isList_1 ++ []
def dkwX4_isList_0 : List UInt8 := [43, 180, 0, 128, 42, 180, 1, 11, 46, 16, 60, 159, 0, 29, 42, 43, 182, 1, 21, 153, 0, 19, 42, 43]
abbrev dktX4_isList_0 : List UInt8 := dkwX4_isList_0 ++ dktX4_isList_1
theorem dksX4_isList_0 : cX4_isList.data.toList.drop 0 = dktX4_isList_0 := by decide +kernel
theorem dksX4_isList_1 : cX4_isList.data.toList.drop 24 = dktX4_isList_1 := dk_seg dksX4_isList_0 24 rfl rfl
theorem dX4_isList_0 : decode cX4_isList 0 = .ok (.aload_n 1, 1) := dk_43 (dk_at dksX4_isList_0 0 rfl rfl)
theorem dX4_isList_1 : decode cX4_isList 1 = .ok (.getfield 128, 3) := dk_180 0 128 (dk_at dksX4_isList_0 1 rfl rfl)
theorem dX4_isList_4 : decode cX4_isList 4 = .ok (.aload_n 0, 1) := dk_42 (dk_at dksX4_isList_0 4 rfl rfl)
theorem dX4_isList_5 : decode cX4_isList 5 = .ok (.getfield 267, 3) := dk_180 1 11 (dk_at dksX4_isList_0 5 rfl rfl)
theorem dX4_isList_8 : decode cX4_isList 8 = .ok (.iaload, 1) := dk_46 (dk_at dksX4_isList_0 8 rfl rfl)
theorem dX4_isList_9 : decode cX4_isList 9 = .ok (.bipush 60, 2) := dk_16 60 (dk_at dksX4_isList_0 9 rfl rfl)
theorem dX4_isList_11 : decode cX4_isList 11 = .ok (.if_icmp .eq 29, 3) := dk_159 0 29 (dk_at dksX4_isList_0 11 rfl rfl)
theorem dX4_isList_14 : decode cX4_isList 14 = .ok (.aload_n 0, 1) := dk_42 (dk_at dksX4_isList_0 14 rfl rfl)
theorem dX4_isList_15 : decode cX4_isList 15 = .ok (.aload_n 1, 1) := dk_43 (dk_at dksX4_isList_0 15 rfl rfl)
theorem dX4_isList_16 : decode cX4_isList 16 = .ok (.invokevirtual 277, 3) := dk_182 1 21 (dk_at dksX4_isList_0 16 rfl rfl)
theorem dX4_isList_19 : decode cX4_isList 19 = .ok (.ifCond .eq 19, 3) := dk_153 0 19 (dk_at dksX4_isList_0 19 rfl rfl)
theorem dX4_isList_22 : decode cX4_isList 22 = .ok (.aload_n 0, 1) := dk_42 (dk_at dksX4_isList_0 22 rfl rfl)
theorem dX4_isList_23 : decode cX4_isList 23 = .ok (.aload_n 1, 1) := dk_43 (dk_at dksX4_isList_0 23 rfl rfl)
theorem dX4_isList_24 : decode cX4_isList 24 = .ok (.iconst 1, 1) := dk_4 (dk_at dksX4_isList_1 0 rfl rfl)
theorem dX4_isList_25 : decode cX4_isList 25 = .ok (.newarray .int, 2) := dk_188_10 (dk_at dksX4_isList_1 1 rfl rfl)
theorem dX4_isList_27 : decode cX4_isList 27 = .ok (.dup, 1) := dk_89 (dk_at dksX4_isList_1 3 rfl rfl)
theorem dX4_isList_28 : decode cX4_isList 28 = .ok (.iconst 0, 1) := dk_3 (dk_at dksX4_isList_1 4 rfl rfl)
theorem dX4_isList_29 : decode cX4_isList 29 = .ok (.bipush 23, 2) := dk_16 23 (dk_at dksX4_isList_1 5 rfl rfl)
theorem dX4_isList_31 : decode cX4_isList 31 = .ok (.iastore, 1) := dk_79 (dk_at dksX4_isList_1 7 rfl rfl)
theorem dX4_isList_32 : decode cX4_isList 32 = .ok (.invokevirtual 273, 3) := dk_182 1 17 (dk_at dksX4_isList_1 8 rfl rfl)
theorem dX4_isList_35 : decode cX4_isList 35 = .ok (.ifCond .ne (-35), 3) := dk_154 255 221 (dk_at dksX4_isList_1 11 rfl rfl)
theorem dX4_isList_38 : decode cX4_isList 38 = .ok (.iconst 0, 1) := dk_3 (dk_at dksX4_isList_1 14 rfl rfl)
theorem dX4_isList_39 : decode cX4_isList 39 = .ok (.ireturn, 1) := dk_172 (dk_at dksX4_isList_1 15 rfl rfl)
theorem dX4_isList_40 : decode cX4_isList 40 = .ok (.iconst 1, 1) := dk_4 (dk_at dksX4_isList_1 16 rfl rfl)
theorem dX4_isList_41 : decode cX4_isList 41 = .ok (.ireturn, 1) := dk_172 (dk_at dksX4_isList_1 17 rfl rfl)
abbrev cX4_isLine : ByteArray := prog_40_method_52_code
def yX4_isLine : MethodName := ⟨RX4, "isLine", "(LGridTableModel$Sheet;)Z"⟩
def dkwX4_isLine_9 : List UInt8 := [153, 0, 15, 42, 43, 182, 1, 31, 153, 0, 7, 4, 167, 0, 4, 3, 172]
abbrev dktX4_isLine_9 : List UInt8 := dkwX4_isLine_9 ++ []
def dkwX4_isLine_8 : List UInt8 := [188, 10, 89, 3, 16, 8, 79, 89, 4, 16, 20, 79, 89, 5, 4, 79, 89, 6, 16, 20, 79, 182, 1, 17]
abbrev dktX4_isLine_8 : List UInt8 := dkwX4_isLine_8 ++ dktX4_isLine_9
def dkwX4_isLine_7 : List UInt8 := [182, 1, 17, 153, 0, 15, 42, 43, 182, 1, 31, 153, 0, 7, 4, 167, 0, 4, 3, 172, 42, 43, 7]
abbrev dktX4_isLine_7 : List UInt8 := dkwX4_isLine_7 ++ dktX4_isLine_8
def dkwX4_isLine_6 : List UInt8 := [188, 10, 89, 3, 16, 6, 79, 89, 4, 16, 20, 79, 89, 5, 16, 7, 79, 89, 6, 16, 20, 79]
abbrev dktX4_isLine_6 : List UInt8 := dkwX4_isLine_6 ++ dktX4_isLine_7
def dkwX4_isLine_5 : List UInt8 := [182, 1, 25, 153, 0, 15, 42, 43, 182, 1, 31, 153, 0, 7, 4, 167, 0, 4, 3, 172, 42, 43, 7]
abbrev dktX4_isLine_5 : List UInt8 := dkwX4_isLine_5 ++ dktX4_isLine_6
def dkwX4_isLine_4 : List UInt8 := [188, 10, 89, 3, 7, 79, 89, 4, 16, 20, 79, 89, 5, 8, 79, 182, 1, 17, 153, 0, 23, 42, 43]
abbrev dktX4_isLine_4 : List UInt8 := dkwX4_isLine_4 ++ dktX4_isLine_5
def dkwX4_isLine_3 : List UInt8 := [42, 43, 182, 1, 25, 153, 0, 7, 4, 167, 0, 4, 3, 172, 42, 43, 182, 1, 28, 172, 42, 43, 6]
abbrev dktX4_isLine_3 : List UInt8 := dkwX4_isLine_3 ++ dktX4_isLine_4
def dkwX4_isLine_2 : List UInt8 := [42, 43, 6, 188, 10, 89, 3, 3, 79, 89, 4, 16, 20, 79, 89, 5, 4, 79, 182, 1, 17, 153, 0, 15]
abbrev dktX4_isLine_2 : List UInt8 := dkwX4_isLine_2 ++ dktX4_isLine_3
def dkwX4_isLine_1 : List UInt8 := [170, 0, 0, 0, 0, 0, 178, 0, 0, 0, 0, 0, 0, 0, 6, 0, 0, 0, 43, 0, 0, 0, 178, 0, 0, 0, 81, 0, 0, 0, 178, 0, 0, 0, 87, 0, 0, 0, 178, 0, 0, 0, 133]
abbrev dktX4_isLine_1 : List UInt8 := dkwX4_isLine_1 ++ dktX4_isLine_2
def dkwX4_isLine_0 : List UInt8 := [43, 180, 0, 128, 42, 180, 1, 11, 46]
abbrev dktX4_isLine_0 : List UInt8 := dkwX4_isLine_0 ++ dktX4_isLine_1
theorem dksX4_isLine_0 : cX4_isLine.data.toList.drop 0 = dktX4_isLine_0 := by decide +kernel
theorem dksX4_isLine_1 : cX4_isLine.data.toList.drop 9 = dktX4_isLine_1 := dk_seg dksX4_isLine_0 9 rfl rfl
theorem dksX4_isLine_2 : cX4_isLine.data.toList.drop 52 = dktX4_isLine_2 := dk_seg dksX4_isLine_1 43 rfl rfl
theorem dksX4_isLine_3 : cX4_isLine.data.toList.drop 76 = dktX4_isLine_3 := dk_seg dksX4_isLine_2 24 rfl rfl
theorem dksX4_isLine_4 : cX4_isLine.data.toList.drop 99 = dktX4_isLine_4 := dk_seg dksX4_isLine_3 23 rfl rfl
theorem dksX4_isLine_5 : cX4_isLine.data.toList.drop 122 = dktX4_isLine_5 := dk_seg dksX4_isLine_4 23 rfl rfl
theorem dksX4_isLine_6 : cX4_isLine.data.toList.drop 145 = dktX4_isLine_6 := dk_seg dksX4_isLine_5 23 rfl rfl
theorem dksX4_isLine_7 : cX4_isLine.data.toList.drop 167 = dktX4_isLine_7 := dk_seg dksX4_isLine_6 22 rfl rfl
theorem dksX4_isLine_8 : cX4_isLine.data.toList.drop 190 = dktX4_isLine_8 := dk_seg dksX4_isLine_7 23 rfl rfl
theorem dksX4_isLine_9 : cX4_isLine.data.toList.drop 214 = dktX4_isLine_9 := dk_seg dksX4_isLine_8 24 rfl rfl
theorem dX4_isLine_0 : decode cX4_isLine 0 = .ok (.aload_n 1, 1) := dk_43 (dk_at dksX4_isLine_0 0 rfl rfl)
theorem dX4_isLine_1 : decode cX4_isLine 1 = .ok (.getfield 128, 3) := dk_180 0 128 (dk_at dksX4_isLine_0 1 rfl rfl)
theorem dX4_isLine_4 : decode cX4_isLine 4 = .ok (.aload_n 0, 1) := dk_42 (dk_at dksX4_isLine_0 4 rfl rfl)
theorem dX4_isLine_5 : decode cX4_isLine 5 = .ok (.getfield 267, 3) := dk_180 1 11 (dk_at dksX4_isLine_0 5 rfl rfl)
theorem dX4_isLine_8 : decode cX4_isLine 8 = .ok (.iaload, 1) := dk_46 (dk_at dksX4_isLine_0 8 rfl rfl)
theorem dX4_isLine_9 : decode cX4_isLine 9 = .ok (.tableswitch 178 0 6 #[43, 178, 81, 178, 87, 178, 133], 43) := by decide +kernel
theorem dX4_isLine_52 : decode cX4_isLine 52 = .ok (.aload_n 0, 1) := dk_42 (dk_at dksX4_isLine_2 0 rfl rfl)
theorem dX4_isLine_53 : decode cX4_isLine 53 = .ok (.aload_n 1, 1) := dk_43 (dk_at dksX4_isLine_2 1 rfl rfl)
theorem dX4_isLine_54 : decode cX4_isLine 54 = .ok (.iconst 3, 1) := dk_6 (dk_at dksX4_isLine_2 2 rfl rfl)
theorem dX4_isLine_55 : decode cX4_isLine 55 = .ok (.newarray .int, 2) := dk_188_10 (dk_at dksX4_isLine_2 3 rfl rfl)
theorem dX4_isLine_57 : decode cX4_isLine 57 = .ok (.dup, 1) := dk_89 (dk_at dksX4_isLine_2 5 rfl rfl)
theorem dX4_isLine_58 : decode cX4_isLine 58 = .ok (.iconst 0, 1) := dk_3 (dk_at dksX4_isLine_2 6 rfl rfl)
theorem dX4_isLine_59 : decode cX4_isLine 59 = .ok (.iconst 0, 1) := dk_3 (dk_at dksX4_isLine_2 7 rfl rfl)
theorem dX4_isLine_60 : decode cX4_isLine 60 = .ok (.iastore, 1) := dk_79 (dk_at dksX4_isLine_2 8 rfl rfl)
theorem dX4_isLine_61 : decode cX4_isLine 61 = .ok (.dup, 1) := dk_89 (dk_at dksX4_isLine_2 9 rfl rfl)
theorem dX4_isLine_62 : decode cX4_isLine 62 = .ok (.iconst 1, 1) := dk_4 (dk_at dksX4_isLine_2 10 rfl rfl)
theorem dX4_isLine_63 : decode cX4_isLine 63 = .ok (.bipush 20, 2) := dk_16 20 (dk_at dksX4_isLine_2 11 rfl rfl)
theorem dX4_isLine_65 : decode cX4_isLine 65 = .ok (.iastore, 1) := dk_79 (dk_at dksX4_isLine_2 13 rfl rfl)
theorem dX4_isLine_66 : decode cX4_isLine 66 = .ok (.dup, 1) := dk_89 (dk_at dksX4_isLine_2 14 rfl rfl)
theorem dX4_isLine_67 : decode cX4_isLine 67 = .ok (.iconst 2, 1) := dk_5 (dk_at dksX4_isLine_2 15 rfl rfl)
theorem dX4_isLine_68 : decode cX4_isLine 68 = .ok (.iconst 1, 1) := dk_4 (dk_at dksX4_isLine_2 16 rfl rfl)
theorem dX4_isLine_69 : decode cX4_isLine 69 = .ok (.iastore, 1) := dk_79 (dk_at dksX4_isLine_2 17 rfl rfl)
theorem dX4_isLine_70 : decode cX4_isLine 70 = .ok (.invokevirtual 273, 3) := dk_182 1 17 (dk_at dksX4_isLine_2 18 rfl rfl)
theorem dX4_isLine_73 : decode cX4_isLine 73 = .ok (.ifCond .eq 15, 3) := dk_153 0 15 (dk_at dksX4_isLine_2 21 rfl rfl)
theorem dX4_isLine_76 : decode cX4_isLine 76 = .ok (.aload_n 0, 1) := dk_42 (dk_at dksX4_isLine_3 0 rfl rfl)
theorem dX4_isLine_77 : decode cX4_isLine 77 = .ok (.aload_n 1, 1) := dk_43 (dk_at dksX4_isLine_3 1 rfl rfl)
theorem dX4_isLine_78 : decode cX4_isLine 78 = .ok (.invokevirtual 281, 3) := dk_182 1 25 (dk_at dksX4_isLine_3 2 rfl rfl)
theorem dX4_isLine_81 : decode cX4_isLine 81 = .ok (.ifCond .eq 7, 3) := dk_153 0 7 (dk_at dksX4_isLine_3 5 rfl rfl)
theorem dX4_isLine_84 : decode cX4_isLine 84 = .ok (.iconst 1, 1) := dk_4 (dk_at dksX4_isLine_3 8 rfl rfl)
theorem dX4_isLine_85 : decode cX4_isLine 85 = .ok (.goto 4, 3) := dk_167 0 4 (dk_at dksX4_isLine_3 9 rfl rfl)
theorem dX4_isLine_88 : decode cX4_isLine 88 = .ok (.iconst 0, 1) := dk_3 (dk_at dksX4_isLine_3 12 rfl rfl)
theorem dX4_isLine_89 : decode cX4_isLine 89 = .ok (.ireturn, 1) := dk_172 (dk_at dksX4_isLine_3 13 rfl rfl)
theorem dX4_isLine_90 : decode cX4_isLine 90 = .ok (.aload_n 0, 1) := dk_42 (dk_at dksX4_isLine_3 14 rfl rfl)
theorem dX4_isLine_91 : decode cX4_isLine 91 = .ok (.aload_n 1, 1) := dk_43 (dk_at dksX4_isLine_3 15 rfl rfl)
theorem dX4_isLine_92 : decode cX4_isLine 92 = .ok (.invokevirtual 284, 3) := dk_182 1 28 (dk_at dksX4_isLine_3 16 rfl rfl)
theorem dX4_isLine_95 : decode cX4_isLine 95 = .ok (.ireturn, 1) := dk_172 (dk_at dksX4_isLine_3 19 rfl rfl)
theorem dX4_isLine_96 : decode cX4_isLine 96 = .ok (.aload_n 0, 1) := dk_42 (dk_at dksX4_isLine_3 20 rfl rfl)
theorem dX4_isLine_97 : decode cX4_isLine 97 = .ok (.aload_n 1, 1) := dk_43 (dk_at dksX4_isLine_3 21 rfl rfl)
theorem dX4_isLine_98 : decode cX4_isLine 98 = .ok (.iconst 3, 1) := dk_6 (dk_at dksX4_isLine_3 22 rfl rfl)
theorem dX4_isLine_99 : decode cX4_isLine 99 = .ok (.newarray .int, 2) := dk_188_10 (dk_at dksX4_isLine_4 0 rfl rfl)
theorem dX4_isLine_101 : decode cX4_isLine 101 = .ok (.dup, 1) := dk_89 (dk_at dksX4_isLine_4 2 rfl rfl)
theorem dX4_isLine_102 : decode cX4_isLine 102 = .ok (.iconst 0, 1) := dk_3 (dk_at dksX4_isLine_4 3 rfl rfl)
theorem dX4_isLine_103 : decode cX4_isLine 103 = .ok (.iconst 4, 1) := dk_7 (dk_at dksX4_isLine_4 4 rfl rfl)
theorem dX4_isLine_104 : decode cX4_isLine 104 = .ok (.iastore, 1) := dk_79 (dk_at dksX4_isLine_4 5 rfl rfl)
theorem dX4_isLine_105 : decode cX4_isLine 105 = .ok (.dup, 1) := dk_89 (dk_at dksX4_isLine_4 6 rfl rfl)
theorem dX4_isLine_106 : decode cX4_isLine 106 = .ok (.iconst 1, 1) := dk_4 (dk_at dksX4_isLine_4 7 rfl rfl)
theorem dX4_isLine_107 : decode cX4_isLine 107 = .ok (.bipush 20, 2) := dk_16 20 (dk_at dksX4_isLine_4 8 rfl rfl)
theorem dX4_isLine_109 : decode cX4_isLine 109 = .ok (.iastore, 1) := dk_79 (dk_at dksX4_isLine_4 10 rfl rfl)
theorem dX4_isLine_110 : decode cX4_isLine 110 = .ok (.dup, 1) := dk_89 (dk_at dksX4_isLine_4 11 rfl rfl)
theorem dX4_isLine_111 : decode cX4_isLine 111 = .ok (.iconst 2, 1) := dk_5 (dk_at dksX4_isLine_4 12 rfl rfl)
theorem dX4_isLine_112 : decode cX4_isLine 112 = .ok (.iconst 5, 1) := dk_8 (dk_at dksX4_isLine_4 13 rfl rfl)
theorem dX4_isLine_113 : decode cX4_isLine 113 = .ok (.iastore, 1) := dk_79 (dk_at dksX4_isLine_4 14 rfl rfl)
theorem dX4_isLine_114 : decode cX4_isLine 114 = .ok (.invokevirtual 273, 3) := dk_182 1 17 (dk_at dksX4_isLine_4 15 rfl rfl)
theorem dX4_isLine_117 : decode cX4_isLine 117 = .ok (.ifCond .eq 23, 3) := dk_153 0 23 (dk_at dksX4_isLine_4 18 rfl rfl)
theorem dX4_isLine_120 : decode cX4_isLine 120 = .ok (.aload_n 0, 1) := dk_42 (dk_at dksX4_isLine_4 21 rfl rfl)
theorem dX4_isLine_121 : decode cX4_isLine 121 = .ok (.aload_n 1, 1) := dk_43 (dk_at dksX4_isLine_4 22 rfl rfl)
theorem dX4_isLine_122 : decode cX4_isLine 122 = .ok (.invokevirtual 281, 3) := dk_182 1 25 (dk_at dksX4_isLine_5 0 rfl rfl)
theorem dX4_isLine_125 : decode cX4_isLine 125 = .ok (.ifCond .eq 15, 3) := dk_153 0 15 (dk_at dksX4_isLine_5 3 rfl rfl)
theorem dX4_isLine_128 : decode cX4_isLine 128 = .ok (.aload_n 0, 1) := dk_42 (dk_at dksX4_isLine_5 6 rfl rfl)
theorem dX4_isLine_129 : decode cX4_isLine 129 = .ok (.aload_n 1, 1) := dk_43 (dk_at dksX4_isLine_5 7 rfl rfl)
theorem dX4_isLine_130 : decode cX4_isLine 130 = .ok (.invokevirtual 287, 3) := dk_182 1 31 (dk_at dksX4_isLine_5 8 rfl rfl)
theorem dX4_isLine_133 : decode cX4_isLine 133 = .ok (.ifCond .eq 7, 3) := dk_153 0 7 (dk_at dksX4_isLine_5 11 rfl rfl)
theorem dX4_isLine_136 : decode cX4_isLine 136 = .ok (.iconst 1, 1) := dk_4 (dk_at dksX4_isLine_5 14 rfl rfl)
theorem dX4_isLine_137 : decode cX4_isLine 137 = .ok (.goto 4, 3) := dk_167 0 4 (dk_at dksX4_isLine_5 15 rfl rfl)
theorem dX4_isLine_140 : decode cX4_isLine 140 = .ok (.iconst 0, 1) := dk_3 (dk_at dksX4_isLine_5 18 rfl rfl)
theorem dX4_isLine_141 : decode cX4_isLine 141 = .ok (.ireturn, 1) := dk_172 (dk_at dksX4_isLine_5 19 rfl rfl)
theorem dX4_isLine_142 : decode cX4_isLine 142 = .ok (.aload_n 0, 1) := dk_42 (dk_at dksX4_isLine_5 20 rfl rfl)
theorem dX4_isLine_143 : decode cX4_isLine 143 = .ok (.aload_n 1, 1) := dk_43 (dk_at dksX4_isLine_5 21 rfl rfl)
theorem dX4_isLine_144 : decode cX4_isLine 144 = .ok (.iconst 4, 1) := dk_7 (dk_at dksX4_isLine_5 22 rfl rfl)
theorem dX4_isLine_145 : decode cX4_isLine 145 = .ok (.newarray .int, 2) := dk_188_10 (dk_at dksX4_isLine_6 0 rfl rfl)
theorem dX4_isLine_147 : decode cX4_isLine 147 = .ok (.dup, 1) := dk_89 (dk_at dksX4_isLine_6 2 rfl rfl)
theorem dX4_isLine_148 : decode cX4_isLine 148 = .ok (.iconst 0, 1) := dk_3 (dk_at dksX4_isLine_6 3 rfl rfl)
theorem dX4_isLine_149 : decode cX4_isLine 149 = .ok (.bipush 6, 2) := dk_16 6 (dk_at dksX4_isLine_6 4 rfl rfl)
theorem dX4_isLine_151 : decode cX4_isLine 151 = .ok (.iastore, 1) := dk_79 (dk_at dksX4_isLine_6 6 rfl rfl)
theorem dX4_isLine_152 : decode cX4_isLine 152 = .ok (.dup, 1) := dk_89 (dk_at dksX4_isLine_6 7 rfl rfl)
theorem dX4_isLine_153 : decode cX4_isLine 153 = .ok (.iconst 1, 1) := dk_4 (dk_at dksX4_isLine_6 8 rfl rfl)
theorem dX4_isLine_154 : decode cX4_isLine 154 = .ok (.bipush 20, 2) := dk_16 20 (dk_at dksX4_isLine_6 9 rfl rfl)
theorem dX4_isLine_156 : decode cX4_isLine 156 = .ok (.iastore, 1) := dk_79 (dk_at dksX4_isLine_6 11 rfl rfl)
theorem dX4_isLine_157 : decode cX4_isLine 157 = .ok (.dup, 1) := dk_89 (dk_at dksX4_isLine_6 12 rfl rfl)
theorem dX4_isLine_158 : decode cX4_isLine 158 = .ok (.iconst 2, 1) := dk_5 (dk_at dksX4_isLine_6 13 rfl rfl)
theorem dX4_isLine_159 : decode cX4_isLine 159 = .ok (.bipush 7, 2) := dk_16 7 (dk_at dksX4_isLine_6 14 rfl rfl)
theorem dX4_isLine_161 : decode cX4_isLine 161 = .ok (.iastore, 1) := dk_79 (dk_at dksX4_isLine_6 16 rfl rfl)
theorem dX4_isLine_162 : decode cX4_isLine 162 = .ok (.dup, 1) := dk_89 (dk_at dksX4_isLine_6 17 rfl rfl)
theorem dX4_isLine_163 : decode cX4_isLine 163 = .ok (.iconst 3, 1) := dk_6 (dk_at dksX4_isLine_6 18 rfl rfl)
theorem dX4_isLine_164 : decode cX4_isLine 164 = .ok (.bipush 20, 2) := dk_16 20 (dk_at dksX4_isLine_6 19 rfl rfl)
theorem dX4_isLine_166 : decode cX4_isLine 166 = .ok (.iastore, 1) := dk_79 (dk_at dksX4_isLine_6 21 rfl rfl)
theorem dX4_isLine_167 : decode cX4_isLine 167 = .ok (.invokevirtual 273, 3) := dk_182 1 17 (dk_at dksX4_isLine_7 0 rfl rfl)
theorem dX4_isLine_170 : decode cX4_isLine 170 = .ok (.ifCond .eq 15, 3) := dk_153 0 15 (dk_at dksX4_isLine_7 3 rfl rfl)
theorem dX4_isLine_173 : decode cX4_isLine 173 = .ok (.aload_n 0, 1) := dk_42 (dk_at dksX4_isLine_7 6 rfl rfl)
theorem dX4_isLine_174 : decode cX4_isLine 174 = .ok (.aload_n 1, 1) := dk_43 (dk_at dksX4_isLine_7 7 rfl rfl)
theorem dX4_isLine_175 : decode cX4_isLine 175 = .ok (.invokevirtual 287, 3) := dk_182 1 31 (dk_at dksX4_isLine_7 8 rfl rfl)
theorem dX4_isLine_178 : decode cX4_isLine 178 = .ok (.ifCond .eq 7, 3) := dk_153 0 7 (dk_at dksX4_isLine_7 11 rfl rfl)
theorem dX4_isLine_181 : decode cX4_isLine 181 = .ok (.iconst 1, 1) := dk_4 (dk_at dksX4_isLine_7 14 rfl rfl)
theorem dX4_isLine_182 : decode cX4_isLine 182 = .ok (.goto 4, 3) := dk_167 0 4 (dk_at dksX4_isLine_7 15 rfl rfl)
theorem dX4_isLine_185 : decode cX4_isLine 185 = .ok (.iconst 0, 1) := dk_3 (dk_at dksX4_isLine_7 18 rfl rfl)
theorem dX4_isLine_186 : decode cX4_isLine 186 = .ok (.ireturn, 1) := dk_172 (dk_at dksX4_isLine_7 19 rfl rfl)
theorem dX4_isLine_187 : decode cX4_isLine 187 = .ok (.aload_n 0, 1) := dk_42 (dk_at dksX4_isLine_7 20 rfl rfl)
theorem dX4_isLine_188 : decode cX4_isLine 188 = .ok (.aload_n 1, 1) := dk_43 (dk_at dksX4_isLine_7 21 rfl rfl)
theorem dX4_isLine_189 : decode cX4_isLine 189 = .ok (.iconst 4, 1) := dk_7 (dk_at dksX4_isLine_7 22 rfl rfl)
theorem dX4_isLine_190 : decode cX4_isLine 190 = .ok (.newarray .int, 2) := dk_188_10 (dk_at dksX4_isLine_8 0 rfl rfl)
theorem dX4_isLine_192 : decode cX4_isLine 192 = .ok (.dup, 1) := dk_89 (dk_at dksX4_isLine_8 2 rfl rfl)
theorem dX4_isLine_193 : decode cX4_isLine 193 = .ok (.iconst 0, 1) := dk_3 (dk_at dksX4_isLine_8 3 rfl rfl)
theorem dX4_isLine_194 : decode cX4_isLine 194 = .ok (.bipush 8, 2) := dk_16 8 (dk_at dksX4_isLine_8 4 rfl rfl)
theorem dX4_isLine_196 : decode cX4_isLine 196 = .ok (.iastore, 1) := dk_79 (dk_at dksX4_isLine_8 6 rfl rfl)
theorem dX4_isLine_197 : decode cX4_isLine 197 = .ok (.dup, 1) := dk_89 (dk_at dksX4_isLine_8 7 rfl rfl)
theorem dX4_isLine_198 : decode cX4_isLine 198 = .ok (.iconst 1, 1) := dk_4 (dk_at dksX4_isLine_8 8 rfl rfl)
theorem dX4_isLine_199 : decode cX4_isLine 199 = .ok (.bipush 20, 2) := dk_16 20 (dk_at dksX4_isLine_8 9 rfl rfl)
theorem dX4_isLine_201 : decode cX4_isLine 201 = .ok (.iastore, 1) := dk_79 (dk_at dksX4_isLine_8 11 rfl rfl)
theorem dX4_isLine_202 : decode cX4_isLine 202 = .ok (.dup, 1) := dk_89 (dk_at dksX4_isLine_8 12 rfl rfl)
theorem dX4_isLine_203 : decode cX4_isLine 203 = .ok (.iconst 2, 1) := dk_5 (dk_at dksX4_isLine_8 13 rfl rfl)
theorem dX4_isLine_204 : decode cX4_isLine 204 = .ok (.iconst 1, 1) := dk_4 (dk_at dksX4_isLine_8 14 rfl rfl)
theorem dX4_isLine_205 : decode cX4_isLine 205 = .ok (.iastore, 1) := dk_79 (dk_at dksX4_isLine_8 15 rfl rfl)
theorem dX4_isLine_206 : decode cX4_isLine 206 = .ok (.dup, 1) := dk_89 (dk_at dksX4_isLine_8 16 rfl rfl)
theorem dX4_isLine_207 : decode cX4_isLine 207 = .ok (.iconst 3, 1) := dk_6 (dk_at dksX4_isLine_8 17 rfl rfl)
theorem dX4_isLine_208 : decode cX4_isLine 208 = .ok (.bipush 20, 2) := dk_16 20 (dk_at dksX4_isLine_8 18 rfl rfl)
theorem dX4_isLine_210 : decode cX4_isLine 210 = .ok (.iastore, 1) := dk_79 (dk_at dksX4_isLine_8 20 rfl rfl)
theorem dX4_isLine_211 : decode cX4_isLine 211 = .ok (.invokevirtual 273, 3) := dk_182 1 17 (dk_at dksX4_isLine_8 21 rfl rfl)
theorem dX4_isLine_214 : decode cX4_isLine 214 = .ok (.ifCond .eq 15, 3) := dk_153 0 15 (dk_at dksX4_isLine_9 0 rfl rfl)
theorem dX4_isLine_217 : decode cX4_isLine 217 = .ok (.aload_n 0, 1) := dk_42 (dk_at dksX4_isLine_9 3 rfl rfl)
theorem dX4_isLine_218 : decode cX4_isLine 218 = .ok (.aload_n 1, 1) := dk_43 (dk_at dksX4_isLine_9 4 rfl rfl)
theorem dX4_isLine_219 : decode cX4_isLine 219 = .ok (.invokevirtual 287, 3) := dk_182 1 31 (dk_at dksX4_isLine_9 5 rfl rfl)
theorem dX4_isLine_222 : decode cX4_isLine 222 = .ok (.ifCond .eq 7, 3) := dk_153 0 7 (dk_at dksX4_isLine_9 8 rfl rfl)
theorem dX4_isLine_225 : decode cX4_isLine 225 = .ok (.iconst 1, 1) := dk_4 (dk_at dksX4_isLine_9 11 rfl rfl)
theorem dX4_isLine_226 : decode cX4_isLine 226 = .ok (.goto 4, 3) := dk_167 0 4 (dk_at dksX4_isLine_9 12 rfl rfl)
theorem dX4_isLine_229 : decode cX4_isLine 229 = .ok (.iconst 0, 1) := dk_3 (dk_at dksX4_isLine_9 15 rfl rfl)
theorem dX4_isLine_230 : decode cX4_isLine 230 = .ok (.ireturn, 1) := dk_172 (dk_at dksX4_isLine_9 16 rfl rfl)
abbrev cX4_eat : ByteArray := prog_40_method_48_code
def yX4_eat : MethodName := ⟨RX4, "eat", "(LGridTableModel$Sheet;[I)Z"⟩
def dkwX4_eat_2 : List UInt8 := [181, 1, 11, 132, 5, 1, 167, 255, 214, 4, 172]
abbrev dktX4_eat_2 : List UInt8 := dkwX4_eat_2 ++ []
def dkwX4_eat_1 : List UInt8 := [180, 0, 128, 42, 180, 1, 11, 46, 21, 6, 159, 0, 5, 3, 172, 42, 89, 180, 1, 11, 4, 96]
abbrev dktX4_eat_1 : List UInt8 := dkwX4_eat_1 ++ dktX4_eat_2
def dkwX4_eat_0 : List UInt8 := [44, 78, 45, 190, 54, 4, 3, 54, 5, 21, 5, 21, 4, 162, 0, 41, 45, 21, 5, 46, 54, 6, 43]
abbrev dktX4_eat_0 : List UInt8 := dkwX4_eat_0 ++ dktX4_eat_1
theorem dksX4_eat_0 : cX4_eat.data.toList.drop 0 = dktX4_eat_0 := by decide +kernel
theorem dksX4_eat_1 : cX4_eat.data.toList.drop 23 = dktX4_eat_1 := dk_seg dksX4_eat_0 23 rfl rfl
theorem dksX4_eat_2 : cX4_eat.data.toList.drop 45 = dktX4_eat_2 := dk_seg dksX4_eat_1 22 rfl rfl
theorem dX4_eat_0 : decode cX4_eat 0 = .ok (.aload_n 2, 1) := dk_44 (dk_at dksX4_eat_0 0 rfl rfl)
theorem dX4_eat_1 : decode cX4_eat 1 = .ok (.astore_n 3, 1) := dk_78 (dk_at dksX4_eat_0 1 rfl rfl)
theorem dX4_eat_2 : decode cX4_eat 2 = .ok (.aload_n 3, 1) := dk_45 (dk_at dksX4_eat_0 2 rfl rfl)
theorem dX4_eat_3 : decode cX4_eat 3 = .ok (.arraylength, 1) := dk_190 (dk_at dksX4_eat_0 3 rfl rfl)
theorem dX4_eat_4 : decode cX4_eat 4 = .ok (.istore 4, 2) := dk_54 4 (dk_at dksX4_eat_0 4 rfl rfl)
theorem dX4_eat_6 : decode cX4_eat 6 = .ok (.iconst 0, 1) := dk_3 (dk_at dksX4_eat_0 6 rfl rfl)
theorem dX4_eat_7 : decode cX4_eat 7 = .ok (.istore 5, 2) := dk_54 5 (dk_at dksX4_eat_0 7 rfl rfl)
theorem dX4_eat_9 : decode cX4_eat 9 = .ok (.iload 5, 2) := dk_21 5 (dk_at dksX4_eat_0 9 rfl rfl)
theorem dX4_eat_11 : decode cX4_eat 11 = .ok (.iload 4, 2) := dk_21 4 (dk_at dksX4_eat_0 11 rfl rfl)
theorem dX4_eat_13 : decode cX4_eat 13 = .ok (.if_icmp .ge 41, 3) := dk_162 0 41 (dk_at dksX4_eat_0 13 rfl rfl)
theorem dX4_eat_16 : decode cX4_eat 16 = .ok (.aload_n 3, 1) := dk_45 (dk_at dksX4_eat_0 16 rfl rfl)
theorem dX4_eat_17 : decode cX4_eat 17 = .ok (.iload 5, 2) := dk_21 5 (dk_at dksX4_eat_0 17 rfl rfl)
theorem dX4_eat_19 : decode cX4_eat 19 = .ok (.iaload, 1) := dk_46 (dk_at dksX4_eat_0 19 rfl rfl)
theorem dX4_eat_20 : decode cX4_eat 20 = .ok (.istore 6, 2) := dk_54 6 (dk_at dksX4_eat_0 20 rfl rfl)
theorem dX4_eat_22 : decode cX4_eat 22 = .ok (.aload_n 1, 1) := dk_43 (dk_at dksX4_eat_0 22 rfl rfl)
theorem dX4_eat_23 : decode cX4_eat 23 = .ok (.getfield 128, 3) := dk_180 0 128 (dk_at dksX4_eat_1 0 rfl rfl)
theorem dX4_eat_26 : decode cX4_eat 26 = .ok (.aload_n 0, 1) := dk_42 (dk_at dksX4_eat_1 3 rfl rfl)
theorem dX4_eat_27 : decode cX4_eat 27 = .ok (.getfield 267, 3) := dk_180 1 11 (dk_at dksX4_eat_1 4 rfl rfl)
theorem dX4_eat_30 : decode cX4_eat 30 = .ok (.iaload, 1) := dk_46 (dk_at dksX4_eat_1 7 rfl rfl)
theorem dX4_eat_31 : decode cX4_eat 31 = .ok (.iload 6, 2) := dk_21 6 (dk_at dksX4_eat_1 8 rfl rfl)
theorem dX4_eat_33 : decode cX4_eat 33 = .ok (.if_icmp .eq 5, 3) := dk_159 0 5 (dk_at dksX4_eat_1 10 rfl rfl)
theorem dX4_eat_36 : decode cX4_eat 36 = .ok (.iconst 0, 1) := dk_3 (dk_at dksX4_eat_1 13 rfl rfl)
theorem dX4_eat_37 : decode cX4_eat 37 = .ok (.ireturn, 1) := dk_172 (dk_at dksX4_eat_1 14 rfl rfl)
theorem dX4_eat_38 : decode cX4_eat 38 = .ok (.aload_n 0, 1) := dk_42 (dk_at dksX4_eat_1 15 rfl rfl)
theorem dX4_eat_39 : decode cX4_eat 39 = .ok (.dup, 1) := dk_89 (dk_at dksX4_eat_1 16 rfl rfl)
theorem dX4_eat_40 : decode cX4_eat 40 = .ok (.getfield 267, 3) := dk_180 1 11 (dk_at dksX4_eat_1 17 rfl rfl)
theorem dX4_eat_43 : decode cX4_eat 43 = .ok (.iconst 1, 1) := dk_4 (dk_at dksX4_eat_1 20 rfl rfl)
theorem dX4_eat_44 : decode cX4_eat 44 = .ok (.iadd, 1) := dk_96 (dk_at dksX4_eat_1 21 rfl rfl)
theorem dX4_eat_45 : decode cX4_eat 45 = .ok (.putfield 267, 3) := dk_181 1 11 (dk_at dksX4_eat_2 0 rfl rfl)
theorem dX4_eat_48 : decode cX4_eat 48 = .ok (.iinc 5 1, 3) := dk_132 5 1 (dk_at dksX4_eat_2 3 rfl rfl)
theorem dX4_eat_51 : decode cX4_eat 51 = .ok (.goto (-42), 3) := dk_167 255 214 (dk_at dksX4_eat_2 6 rfl rfl)
theorem dX4_eat_54 : decode cX4_eat 54 = .ok (.iconst 1, 1) := dk_4 (dk_at dksX4_eat_2 9 rfl rfl)
theorem dX4_eat_55 : decode cX4_eat 55 = .ok (.ireturn, 1) := dk_172 (dk_at dksX4_eat_2 10 rfl rfl)
abbrev cX4_areSums : ByteArray := prog_40_method_53_code
def yX4_areSums : MethodName := ⟨RX4, "areSums", "(LGridTableModel$Sheet;)Z"⟩
def dkwX4_areSums_1 : List UInt8 := [42, 43, 182, 1, 34, 153, 0, 7, 4, 167, 0, 4, 3, 172]
abbrev dktX4_areSums_1 : List UInt8 := dkwX4_areSums_1 ++ []
def dkwX4_areSums_0 : List UInt8 := [42, 43, 182, 1, 34, 153, 0, 31, 42, 43, 4, 188, 10, 89, 3, 16, 22, 79, 182, 1, 17, 153, 0, 15]
abbrev dktX4_areSums_0 : List UInt8 := dkwX4_areSums_0 ++ dktX4_areSums_1
theorem dksX4_areSums_0 : cX4_areSums.data.toList.drop 0 = dktX4_areSums_0 := by decide +kernel
theorem dksX4_areSums_1 : cX4_areSums.data.toList.drop 24 = dktX4_areSums_1 := dk_seg dksX4_areSums_0 24 rfl rfl
theorem dX4_areSums_0 : decode cX4_areSums 0 = .ok (.aload_n 0, 1) := dk_42 (dk_at dksX4_areSums_0 0 rfl rfl)
theorem dX4_areSums_1 : decode cX4_areSums 1 = .ok (.aload_n 1, 1) := dk_43 (dk_at dksX4_areSums_0 1 rfl rfl)
theorem dX4_areSums_2 : decode cX4_areSums 2 = .ok (.invokevirtual 290, 3) := dk_182 1 34 (dk_at dksX4_areSums_0 2 rfl rfl)
theorem dX4_areSums_5 : decode cX4_areSums 5 = .ok (.ifCond .eq 31, 3) := dk_153 0 31 (dk_at dksX4_areSums_0 5 rfl rfl)
theorem dX4_areSums_8 : decode cX4_areSums 8 = .ok (.aload_n 0, 1) := dk_42 (dk_at dksX4_areSums_0 8 rfl rfl)
theorem dX4_areSums_9 : decode cX4_areSums 9 = .ok (.aload_n 1, 1) := dk_43 (dk_at dksX4_areSums_0 9 rfl rfl)
theorem dX4_areSums_10 : decode cX4_areSums 10 = .ok (.iconst 1, 1) := dk_4 (dk_at dksX4_areSums_0 10 rfl rfl)
theorem dX4_areSums_11 : decode cX4_areSums 11 = .ok (.newarray .int, 2) := dk_188_10 (dk_at dksX4_areSums_0 11 rfl rfl)
theorem dX4_areSums_13 : decode cX4_areSums 13 = .ok (.dup, 1) := dk_89 (dk_at dksX4_areSums_0 13 rfl rfl)
theorem dX4_areSums_14 : decode cX4_areSums 14 = .ok (.iconst 0, 1) := dk_3 (dk_at dksX4_areSums_0 14 rfl rfl)
theorem dX4_areSums_15 : decode cX4_areSums 15 = .ok (.bipush 22, 2) := dk_16 22 (dk_at dksX4_areSums_0 15 rfl rfl)
theorem dX4_areSums_17 : decode cX4_areSums 17 = .ok (.iastore, 1) := dk_79 (dk_at dksX4_areSums_0 17 rfl rfl)
theorem dX4_areSums_18 : decode cX4_areSums 18 = .ok (.invokevirtual 273, 3) := dk_182 1 17 (dk_at dksX4_areSums_0 18 rfl rfl)
theorem dX4_areSums_21 : decode cX4_areSums 21 = .ok (.ifCond .eq 15, 3) := dk_153 0 15 (dk_at dksX4_areSums_0 21 rfl rfl)
theorem dX4_areSums_24 : decode cX4_areSums 24 = .ok (.aload_n 0, 1) := dk_42 (dk_at dksX4_areSums_1 0 rfl rfl)
theorem dX4_areSums_25 : decode cX4_areSums 25 = .ok (.aload_n 1, 1) := dk_43 (dk_at dksX4_areSums_1 1 rfl rfl)
theorem dX4_areSums_26 : decode cX4_areSums 26 = .ok (.invokevirtual 290, 3) := dk_182 1 34 (dk_at dksX4_areSums_1 2 rfl rfl)
theorem dX4_areSums_29 : decode cX4_areSums 29 = .ok (.ifCond .eq 7, 3) := dk_153 0 7 (dk_at dksX4_areSums_1 5 rfl rfl)
theorem dX4_areSums_32 : decode cX4_areSums 32 = .ok (.iconst 1, 1) := dk_4 (dk_at dksX4_areSums_1 8 rfl rfl)
theorem dX4_areSums_33 : decode cX4_areSums 33 = .ok (.goto 4, 3) := dk_167 0 4 (dk_at dksX4_areSums_1 9 rfl rfl)
theorem dX4_areSums_36 : decode cX4_areSums 36 = .ok (.iconst 0, 1) := dk_3 (dk_at dksX4_areSums_1 12 rfl rfl)
theorem dX4_areSums_37 : decode cX4_areSums 37 = .ok (.ireturn, 1) := dk_172 (dk_at dksX4_areSums_1 13 rfl rfl)
abbrev cX4_isSum : ByteArray := prog_40_method_59_code
def yX4_isSum : MethodName := ⟨RX4, "isSum", "(LGridTableModel$Sheet;)Z"⟩
def dkwX4_isSum_2 : List UInt8 := [42, 43, 182, 1, 53, 154, 255, 213, 3, 172, 4, 172]
abbrev dktX4_isSum_2 : List UInt8 := dkwX4_isSum_2 ++ []
def dkwX4_isSum_1 : List UInt8 := [43, 180, 0, 128, 42, 180, 1, 11, 46, 16, 29, 160, 0, 23, 42, 89, 180, 1, 11, 4, 96, 181, 1, 11]
abbrev dktX4_isSum_1 : List UInt8 := dkwX4_isSum_1 ++ dktX4_isSum_2
def dkwX4_isSum_0 : List UInt8 := [42, 43, 182, 1, 53, 154, 0, 5, 3, 172, 43, 180, 0, 128, 42, 180, 1, 11, 46, 16, 28, 159, 0, 17]
abbrev dktX4_isSum_0 : List UInt8 := dkwX4_isSum_0 ++ dktX4_isSum_1
theorem dksX4_isSum_0 : cX4_isSum.data.toList.drop 0 = dktX4_isSum_0 := by decide +kernel
theorem dksX4_isSum_1 : cX4_isSum.data.toList.drop 24 = dktX4_isSum_1 := dk_seg dksX4_isSum_0 24 rfl rfl
theorem dksX4_isSum_2 : cX4_isSum.data.toList.drop 48 = dktX4_isSum_2 := dk_seg dksX4_isSum_1 24 rfl rfl
theorem dX4_isSum_0 : decode cX4_isSum 0 = .ok (.aload_n 0, 1) := dk_42 (dk_at dksX4_isSum_0 0 rfl rfl)
theorem dX4_isSum_1 : decode cX4_isSum 1 = .ok (.aload_n 1, 1) := dk_43 (dk_at dksX4_isSum_0 1 rfl rfl)
theorem dX4_isSum_2 : decode cX4_isSum 2 = .ok (.invokevirtual 309, 3) := dk_182 1 53 (dk_at dksX4_isSum_0 2 rfl rfl)
theorem dX4_isSum_5 : decode cX4_isSum 5 = .ok (.ifCond .ne 5, 3) := dk_154 0 5 (dk_at dksX4_isSum_0 5 rfl rfl)
theorem dX4_isSum_8 : decode cX4_isSum 8 = .ok (.iconst 0, 1) := dk_3 (dk_at dksX4_isSum_0 8 rfl rfl)
theorem dX4_isSum_9 : decode cX4_isSum 9 = .ok (.ireturn, 1) := dk_172 (dk_at dksX4_isSum_0 9 rfl rfl)
theorem dX4_isSum_10 : decode cX4_isSum 10 = .ok (.aload_n 1, 1) := dk_43 (dk_at dksX4_isSum_0 10 rfl rfl)
theorem dX4_isSum_11 : decode cX4_isSum 11 = .ok (.getfield 128, 3) := dk_180 0 128 (dk_at dksX4_isSum_0 11 rfl rfl)
theorem dX4_isSum_14 : decode cX4_isSum 14 = .ok (.aload_n 0, 1) := dk_42 (dk_at dksX4_isSum_0 14 rfl rfl)
theorem dX4_isSum_15 : decode cX4_isSum 15 = .ok (.getfield 267, 3) := dk_180 1 11 (dk_at dksX4_isSum_0 15 rfl rfl)
theorem dX4_isSum_18 : decode cX4_isSum 18 = .ok (.iaload, 1) := dk_46 (dk_at dksX4_isSum_0 18 rfl rfl)
theorem dX4_isSum_19 : decode cX4_isSum 19 = .ok (.bipush 28, 2) := dk_16 28 (dk_at dksX4_isSum_0 19 rfl rfl)
theorem dX4_isSum_21 : decode cX4_isSum 21 = .ok (.if_icmp .eq 17, 3) := dk_159 0 17 (dk_at dksX4_isSum_0 21 rfl rfl)
theorem dX4_isSum_24 : decode cX4_isSum 24 = .ok (.aload_n 1, 1) := dk_43 (dk_at dksX4_isSum_1 0 rfl rfl)
theorem dX4_isSum_25 : decode cX4_isSum 25 = .ok (.getfield 128, 3) := dk_180 0 128 (dk_at dksX4_isSum_1 1 rfl rfl)
theorem dX4_isSum_28 : decode cX4_isSum 28 = .ok (.aload_n 0, 1) := dk_42 (dk_at dksX4_isSum_1 4 rfl rfl)
theorem dX4_isSum_29 : decode cX4_isSum 29 = .ok (.getfield 267, 3) := dk_180 1 11 (dk_at dksX4_isSum_1 5 rfl rfl)
theorem dX4_isSum_32 : decode cX4_isSum 32 = .ok (.iaload, 1) := dk_46 (dk_at dksX4_isSum_1 8 rfl rfl)
theorem dX4_isSum_33 : decode cX4_isSum 33 = .ok (.bipush 29, 2) := dk_16 29 (dk_at dksX4_isSum_1 9 rfl rfl)
theorem dX4_isSum_35 : decode cX4_isSum 35 = .ok (.if_icmp .ne 23, 3) := dk_160 0 23 (dk_at dksX4_isSum_1 11 rfl rfl)
theorem dX4_isSum_38 : decode cX4_isSum 38 = .ok (.aload_n 0, 1) := dk_42 (dk_at dksX4_isSum_1 14 rfl rfl)
theorem dX4_isSum_39 : decode cX4_isSum 39 = .ok (.dup, 1) := dk_89 (dk_at dksX4_isSum_1 15 rfl rfl)
theorem dX4_isSum_40 : decode cX4_isSum 40 = .ok (.getfield 267, 3) := dk_180 1 11 (dk_at dksX4_isSum_1 16 rfl rfl)
theorem dX4_isSum_43 : decode cX4_isSum 43 = .ok (.iconst 1, 1) := dk_4 (dk_at dksX4_isSum_1 19 rfl rfl)
theorem dX4_isSum_44 : decode cX4_isSum 44 = .ok (.iadd, 1) := dk_96 (dk_at dksX4_isSum_1 20 rfl rfl)
theorem dX4_isSum_45 : decode cX4_isSum 45 = .ok (.putfield 267, 3) := dk_181 1 11 (dk_at dksX4_isSum_1 21 rfl rfl)
theorem dX4_isSum_48 : decode cX4_isSum 48 = .ok (.aload_n 0, 1) := dk_42 (dk_at dksX4_isSum_2 0 rfl rfl)
theorem dX4_isSum_49 : decode cX4_isSum 49 = .ok (.aload_n 1, 1) := dk_43 (dk_at dksX4_isSum_2 1 rfl rfl)
theorem dX4_isSum_50 : decode cX4_isSum 50 = .ok (.invokevirtual 309, 3) := dk_182 1 53 (dk_at dksX4_isSum_2 2 rfl rfl)
theorem dX4_isSum_53 : decode cX4_isSum 53 = .ok (.ifCond .ne (-43), 3) := dk_154 255 213 (dk_at dksX4_isSum_2 5 rfl rfl)
theorem dX4_isSum_56 : decode cX4_isSum 56 = .ok (.iconst 0, 1) := dk_3 (dk_at dksX4_isSum_2 8 rfl rfl)
theorem dX4_isSum_57 : decode cX4_isSum 57 = .ok (.ireturn, 1) := dk_172 (dk_at dksX4_isSum_2 9 rfl rfl)
theorem dX4_isSum_58 : decode cX4_isSum 58 = .ok (.iconst 1, 1) := dk_4 (dk_at dksX4_isSum_2 10 rfl rfl)
theorem dX4_isSum_59 : decode cX4_isSum 59 = .ok (.ireturn, 1) := dk_172 (dk_at dksX4_isSum_2 11 rfl rfl)
abbrev cX4_isProduct : ByteArray := prog_40_method_60_code
def yX4_isProduct : MethodName := ⟨RX4, "isProduct", "(LGridTableModel$Sheet;)Z"⟩
def dkwX4_isProduct_2 : List UInt8 := [42, 43, 182, 1, 56, 154, 255, 213, 3, 172, 4, 172]
abbrev dktX4_isProduct_2 : List UInt8 := dkwX4_isProduct_2 ++ []
def dkwX4_isProduct_1 : List UInt8 := [43, 180, 0, 128, 42, 180, 1, 11, 46, 16, 31, 160, 0, 23, 42, 89, 180, 1, 11, 4, 96, 181, 1, 11]
abbrev dktX4_isProduct_1 : List UInt8 := dkwX4_isProduct_1 ++ dktX4_isProduct_2
def dkwX4_isProduct_0 : List UInt8 := [42, 43, 182, 1, 56, 154, 0, 5, 3, 172, 43, 180, 0, 128, 42, 180, 1, 11, 46, 16, 30, 159, 0, 17]
abbrev dktX4_isProduct_0 : List UInt8 := dkwX4_isProduct_0 ++ dktX4_isProduct_1
theorem dksX4_isProduct_0 : cX4_isProduct.data.toList.drop 0 = dktX4_isProduct_0 := by decide +kernel
theorem dksX4_isProduct_1 : cX4_isProduct.data.toList.drop 24 = dktX4_isProduct_1 := dk_seg dksX4_isProduct_0 24 rfl rfl
theorem dksX4_isProduct_2 : cX4_isProduct.data.toList.drop 48 = dktX4_isProduct_2 := dk_seg dksX4_isProduct_1 24 rfl rfl
theorem dX4_isProduct_0 : decode cX4_isProduct 0 = .ok (.aload_n 0, 1) := dk_42 (dk_at dksX4_isProduct_0 0 rfl rfl)
theorem dX4_isProduct_1 : decode cX4_isProduct 1 = .ok (.aload_n 1, 1) := dk_43 (dk_at dksX4_isProduct_0 1 rfl rfl)
theorem dX4_isProduct_2 : decode cX4_isProduct 2 = .ok (.invokevirtual 312, 3) := dk_182 1 56 (dk_at dksX4_isProduct_0 2 rfl rfl)
theorem dX4_isProduct_5 : decode cX4_isProduct 5 = .ok (.ifCond .ne 5, 3) := dk_154 0 5 (dk_at dksX4_isProduct_0 5 rfl rfl)
theorem dX4_isProduct_8 : decode cX4_isProduct 8 = .ok (.iconst 0, 1) := dk_3 (dk_at dksX4_isProduct_0 8 rfl rfl)
theorem dX4_isProduct_9 : decode cX4_isProduct 9 = .ok (.ireturn, 1) := dk_172 (dk_at dksX4_isProduct_0 9 rfl rfl)
theorem dX4_isProduct_10 : decode cX4_isProduct 10 = .ok (.aload_n 1, 1) := dk_43 (dk_at dksX4_isProduct_0 10 rfl rfl)
theorem dX4_isProduct_11 : decode cX4_isProduct 11 = .ok (.getfield 128, 3) := dk_180 0 128 (dk_at dksX4_isProduct_0 11 rfl rfl)
theorem dX4_isProduct_14 : decode cX4_isProduct 14 = .ok (.aload_n 0, 1) := dk_42 (dk_at dksX4_isProduct_0 14 rfl rfl)
theorem dX4_isProduct_15 : decode cX4_isProduct 15 = .ok (.getfield 267, 3) := dk_180 1 11 (dk_at dksX4_isProduct_0 15 rfl rfl)
theorem dX4_isProduct_18 : decode cX4_isProduct 18 = .ok (.iaload, 1) := dk_46 (dk_at dksX4_isProduct_0 18 rfl rfl)
theorem dX4_isProduct_19 : decode cX4_isProduct 19 = .ok (.bipush 30, 2) := dk_16 30 (dk_at dksX4_isProduct_0 19 rfl rfl)
theorem dX4_isProduct_21 : decode cX4_isProduct 21 = .ok (.if_icmp .eq 17, 3) := dk_159 0 17 (dk_at dksX4_isProduct_0 21 rfl rfl)
theorem dX4_isProduct_24 : decode cX4_isProduct 24 = .ok (.aload_n 1, 1) := dk_43 (dk_at dksX4_isProduct_1 0 rfl rfl)
theorem dX4_isProduct_25 : decode cX4_isProduct 25 = .ok (.getfield 128, 3) := dk_180 0 128 (dk_at dksX4_isProduct_1 1 rfl rfl)
theorem dX4_isProduct_28 : decode cX4_isProduct 28 = .ok (.aload_n 0, 1) := dk_42 (dk_at dksX4_isProduct_1 4 rfl rfl)
theorem dX4_isProduct_29 : decode cX4_isProduct 29 = .ok (.getfield 267, 3) := dk_180 1 11 (dk_at dksX4_isProduct_1 5 rfl rfl)
theorem dX4_isProduct_32 : decode cX4_isProduct 32 = .ok (.iaload, 1) := dk_46 (dk_at dksX4_isProduct_1 8 rfl rfl)
theorem dX4_isProduct_33 : decode cX4_isProduct 33 = .ok (.bipush 31, 2) := dk_16 31 (dk_at dksX4_isProduct_1 9 rfl rfl)
theorem dX4_isProduct_35 : decode cX4_isProduct 35 = .ok (.if_icmp .ne 23, 3) := dk_160 0 23 (dk_at dksX4_isProduct_1 11 rfl rfl)
theorem dX4_isProduct_38 : decode cX4_isProduct 38 = .ok (.aload_n 0, 1) := dk_42 (dk_at dksX4_isProduct_1 14 rfl rfl)
theorem dX4_isProduct_39 : decode cX4_isProduct 39 = .ok (.dup, 1) := dk_89 (dk_at dksX4_isProduct_1 15 rfl rfl)
theorem dX4_isProduct_40 : decode cX4_isProduct 40 = .ok (.getfield 267, 3) := dk_180 1 11 (dk_at dksX4_isProduct_1 16 rfl rfl)
theorem dX4_isProduct_43 : decode cX4_isProduct 43 = .ok (.iconst 1, 1) := dk_4 (dk_at dksX4_isProduct_1 19 rfl rfl)
theorem dX4_isProduct_44 : decode cX4_isProduct 44 = .ok (.iadd, 1) := dk_96 (dk_at dksX4_isProduct_1 20 rfl rfl)
theorem dX4_isProduct_45 : decode cX4_isProduct 45 = .ok (.putfield 267, 3) := dk_181 1 11 (dk_at dksX4_isProduct_1 21 rfl rfl)
theorem dX4_isProduct_48 : decode cX4_isProduct 48 = .ok (.aload_n 0, 1) := dk_42 (dk_at dksX4_isProduct_2 0 rfl rfl)
theorem dX4_isProduct_49 : decode cX4_isProduct 49 = .ok (.aload_n 1, 1) := dk_43 (dk_at dksX4_isProduct_2 1 rfl rfl)
theorem dX4_isProduct_50 : decode cX4_isProduct 50 = .ok (.invokevirtual 312, 3) := dk_182 1 56 (dk_at dksX4_isProduct_2 2 rfl rfl)
theorem dX4_isProduct_53 : decode cX4_isProduct 53 = .ok (.ifCond .ne (-43), 3) := dk_154 255 213 (dk_at dksX4_isProduct_2 5 rfl rfl)
theorem dX4_isProduct_56 : decode cX4_isProduct 56 = .ok (.iconst 0, 1) := dk_3 (dk_at dksX4_isProduct_2 8 rfl rfl)
theorem dX4_isProduct_57 : decode cX4_isProduct 57 = .ok (.ireturn, 1) := dk_172 (dk_at dksX4_isProduct_2 9 rfl rfl)
theorem dX4_isProduct_58 : decode cX4_isProduct 58 = .ok (.iconst 1, 1) := dk_4 (dk_at dksX4_isProduct_2 10 rfl rfl)
theorem dX4_isProduct_59 : decode cX4_isProduct 59 = .ok (.ireturn, 1) := dk_172 (dk_at dksX4_isProduct_2 11 rfl rfl)
abbrev cX4_isValue : ByteArray := prog_40_method_61_code
def yX4_isValue : MethodName := ⟨RX4, "isValue", "(LGridTableModel$Sheet;)Z"⟩
def dkwX4_isValue_9 : List UInt8 := [4, 96, 181, 1, 11, 4, 172, 3, 172]
abbrev dktX4_isValue_9 : List UInt8 := dkwX4_isValue_9 ++ []
def dkwX4_isValue_8 : List UInt8 := [89, 3, 16, 13, 79, 89, 4, 16, 20, 79, 89, 5, 16, 20, 79, 182, 1, 17, 172, 42, 89, 180, 1, 11]
abbrev dktX4_isValue_8 : List UInt8 := dkwX4_isValue_8 ++ dktX4_isValue_9
def dkwX4_isValue_7 : List UInt8 := [4, 96, 181, 1, 11, 42, 43, 4, 188, 10, 89, 3, 16, 20, 79, 182, 1, 17, 172, 42, 43, 6, 188, 10]
abbrev dktX4_isValue_7 : List UInt8 := dkwX4_isValue_7 ++ dktX4_isValue_8
def dkwX4_isValue_6 : List UInt8 := [153, 0, 17, 42, 43, 16, 25, 182, 1, 50, 153, 0, 7, 4, 167, 0, 4, 3, 172, 42, 89, 180, 1, 11]
abbrev dktX4_isValue_6 : List UInt8 := dkwX4_isValue_6 ++ dktX4_isValue_7
def dkwX4_isValue_5 : List UInt8 := [180, 1, 11, 4, 96, 181, 1, 11, 42, 43, 16, 24, 182, 1, 46, 153, 0, 25, 42, 43, 182, 1, 25]
abbrev dktX4_isValue_5 : List UInt8 := dkwX4_isValue_5 ++ dktX4_isValue_6
def dkwX4_isValue_4 : List UInt8 := [182, 1, 34, 153, 0, 17, 42, 43, 16, 25, 182, 1, 50, 153, 0, 7, 4, 167, 0, 4, 3, 172, 42, 89]
abbrev dktX4_isValue_4 : List UInt8 := dkwX4_isValue_4 ++ dktX4_isValue_5
def dkwX4_isValue_3 : List UInt8 := [180, 1, 14, 4, 100, 181, 1, 14, 4, 172, 42, 43, 16, 24, 182, 1, 46, 153, 0, 25, 42, 43]
abbrev dktX4_isValue_3 : List UInt8 := dkwX4_isValue_3 ++ dktX4_isValue_4
def dkwX4_isValue_2 : List UInt8 := [42, 43, 16, 29, 182, 1, 46, 153, 0, 11, 42, 43, 182, 1, 56, 154, 0, 5, 3, 172, 42, 89]
abbrev dktX4_isValue_2 : List UInt8 := dkwX4_isValue_2 ++ dktX4_isValue_3
def dkwX4_isValue_1 : List UInt8 := [170, 0, 0, 0, 0, 1, 9, 0, 0, 0, 10, 0, 0, 0, 29, 0, 0, 0, 205, 0, 0, 0, 205, 0, 0, 0, 205, 0, 0, 0, 229, 0, 0, 1, 9, 0, 0, 1, 9, 0, 0, 1, 9, 0, 0, 1, 9, 0, 0, 0, 161, 0, 0, 0, 161, 0, 0, 1, 9, 0, 0, 0, 253, 0, 0, 1, 9, 0, 0, 1, 9, 0, 0, 0, 127, 0, 0, 1, 9, 0, 0, 1, 9, 0, 0, 1, 9, 0, 0, 1, 9, 0, 0, 0, 95]
abbrev dktX4_isValue_1 : List UInt8 := dkwX4_isValue_1 ++ dktX4_isValue_2
def dkwX4_isValue_0 : List UInt8 := [43, 180, 0, 128, 42, 180, 1, 11, 46]
abbrev dktX4_isValue_0 : List UInt8 := dkwX4_isValue_0 ++ dktX4_isValue_1
theorem dksX4_isValue_0 : cX4_isValue.data.toList.drop 0 = dktX4_isValue_0 := by decide +kernel
theorem dksX4_isValue_1 : cX4_isValue.data.toList.drop 9 = dktX4_isValue_1 := dk_seg dksX4_isValue_0 9 rfl rfl
theorem dksX4_isValue_2 : cX4_isValue.data.toList.drop 104 = dktX4_isValue_2 := dk_seg dksX4_isValue_1 95 rfl rfl
theorem dksX4_isValue_3 : cX4_isValue.data.toList.drop 126 = dktX4_isValue_3 := dk_seg dksX4_isValue_2 22 rfl rfl
theorem dksX4_isValue_4 : cX4_isValue.data.toList.drop 148 = dktX4_isValue_4 := dk_seg dksX4_isValue_3 22 rfl rfl
theorem dksX4_isValue_5 : cX4_isValue.data.toList.drop 172 = dktX4_isValue_5 := dk_seg dksX4_isValue_4 24 rfl rfl
theorem dksX4_isValue_6 : cX4_isValue.data.toList.drop 195 = dktX4_isValue_6 := dk_seg dksX4_isValue_5 23 rfl rfl
theorem dksX4_isValue_7 : cX4_isValue.data.toList.drop 219 = dktX4_isValue_7 := dk_seg dksX4_isValue_6 24 rfl rfl
theorem dksX4_isValue_8 : cX4_isValue.data.toList.drop 243 = dktX4_isValue_8 := dk_seg dksX4_isValue_7 24 rfl rfl
theorem dksX4_isValue_9 : cX4_isValue.data.toList.drop 267 = dktX4_isValue_9 := dk_seg dksX4_isValue_8 24 rfl rfl
theorem dX4_isValue_0 : decode cX4_isValue 0 = .ok (.aload_n 1, 1) := dk_43 (dk_at dksX4_isValue_0 0 rfl rfl)
theorem dX4_isValue_1 : decode cX4_isValue 1 = .ok (.getfield 128, 3) := dk_180 0 128 (dk_at dksX4_isValue_0 1 rfl rfl)
theorem dX4_isValue_4 : decode cX4_isValue 4 = .ok (.aload_n 0, 1) := dk_42 (dk_at dksX4_isValue_0 4 rfl rfl)
theorem dX4_isValue_5 : decode cX4_isValue 5 = .ok (.getfield 267, 3) := dk_180 1 11 (dk_at dksX4_isValue_0 5 rfl rfl)
theorem dX4_isValue_8 : decode cX4_isValue 8 = .ok (.iaload, 1) := dk_46 (dk_at dksX4_isValue_0 8 rfl rfl)
theorem dX4_isValue_9 : decode cX4_isValue 9 = .ok (.tableswitch 265 10 29 #[205, 205, 205, 229, 265, 265, 265, 265, 161, 161, 265, 253, 265, 265, 127, 265, 265, 265, 265, 95], 95) := by decide +kernel
theorem dX4_isValue_104 : decode cX4_isValue 104 = .ok (.aload_n 0, 1) := dk_42 (dk_at dksX4_isValue_2 0 rfl rfl)
theorem dX4_isValue_105 : decode cX4_isValue 105 = .ok (.aload_n 1, 1) := dk_43 (dk_at dksX4_isValue_2 1 rfl rfl)
theorem dX4_isValue_106 : decode cX4_isValue 106 = .ok (.bipush 29, 2) := dk_16 29 (dk_at dksX4_isValue_2 2 rfl rfl)
theorem dX4_isValue_108 : decode cX4_isValue 108 = .ok (.invokevirtual 302, 3) := dk_182 1 46 (dk_at dksX4_isValue_2 4 rfl rfl)
theorem dX4_isValue_111 : decode cX4_isValue 111 = .ok (.ifCond .eq 11, 3) := dk_153 0 11 (dk_at dksX4_isValue_2 7 rfl rfl)
theorem dX4_isValue_114 : decode cX4_isValue 114 = .ok (.aload_n 0, 1) := dk_42 (dk_at dksX4_isValue_2 10 rfl rfl)
theorem dX4_isValue_115 : decode cX4_isValue 115 = .ok (.aload_n 1, 1) := dk_43 (dk_at dksX4_isValue_2 11 rfl rfl)
theorem dX4_isValue_116 : decode cX4_isValue 116 = .ok (.invokevirtual 312, 3) := dk_182 1 56 (dk_at dksX4_isValue_2 12 rfl rfl)
theorem dX4_isValue_119 : decode cX4_isValue 119 = .ok (.ifCond .ne 5, 3) := dk_154 0 5 (dk_at dksX4_isValue_2 15 rfl rfl)
theorem dX4_isValue_122 : decode cX4_isValue 122 = .ok (.iconst 0, 1) := dk_3 (dk_at dksX4_isValue_2 18 rfl rfl)
theorem dX4_isValue_123 : decode cX4_isValue 123 = .ok (.ireturn, 1) := dk_172 (dk_at dksX4_isValue_2 19 rfl rfl)
theorem dX4_isValue_124 : decode cX4_isValue 124 = .ok (.aload_n 0, 1) := dk_42 (dk_at dksX4_isValue_2 20 rfl rfl)
theorem dX4_isValue_125 : decode cX4_isValue 125 = .ok (.dup, 1) := dk_89 (dk_at dksX4_isValue_2 21 rfl rfl)
theorem dX4_isValue_126 : decode cX4_isValue 126 = .ok (.getfield 270, 3) := dk_180 1 14 (dk_at dksX4_isValue_3 0 rfl rfl)
theorem dX4_isValue_129 : decode cX4_isValue 129 = .ok (.iconst 1, 1) := dk_4 (dk_at dksX4_isValue_3 3 rfl rfl)
theorem dX4_isValue_130 : decode cX4_isValue 130 = .ok (.isub, 1) := dk_100 (dk_at dksX4_isValue_3 4 rfl rfl)
theorem dX4_isValue_131 : decode cX4_isValue 131 = .ok (.putfield 270, 3) := dk_181 1 14 (dk_at dksX4_isValue_3 5 rfl rfl)
theorem dX4_isValue_134 : decode cX4_isValue 134 = .ok (.iconst 1, 1) := dk_4 (dk_at dksX4_isValue_3 8 rfl rfl)
theorem dX4_isValue_135 : decode cX4_isValue 135 = .ok (.ireturn, 1) := dk_172 (dk_at dksX4_isValue_3 9 rfl rfl)
theorem dX4_isValue_136 : decode cX4_isValue 136 = .ok (.aload_n 0, 1) := dk_42 (dk_at dksX4_isValue_3 10 rfl rfl)
theorem dX4_isValue_137 : decode cX4_isValue 137 = .ok (.aload_n 1, 1) := dk_43 (dk_at dksX4_isValue_3 11 rfl rfl)
theorem dX4_isValue_138 : decode cX4_isValue 138 = .ok (.bipush 24, 2) := dk_16 24 (dk_at dksX4_isValue_3 12 rfl rfl)
theorem dX4_isValue_140 : decode cX4_isValue 140 = .ok (.invokevirtual 302, 3) := dk_182 1 46 (dk_at dksX4_isValue_3 14 rfl rfl)
theorem dX4_isValue_143 : decode cX4_isValue 143 = .ok (.ifCond .eq 25, 3) := dk_153 0 25 (dk_at dksX4_isValue_3 17 rfl rfl)
theorem dX4_isValue_146 : decode cX4_isValue 146 = .ok (.aload_n 0, 1) := dk_42 (dk_at dksX4_isValue_3 20 rfl rfl)
theorem dX4_isValue_147 : decode cX4_isValue 147 = .ok (.aload_n 1, 1) := dk_43 (dk_at dksX4_isValue_3 21 rfl rfl)
theorem dX4_isValue_148 : decode cX4_isValue 148 = .ok (.invokevirtual 290, 3) := dk_182 1 34 (dk_at dksX4_isValue_4 0 rfl rfl)
theorem dX4_isValue_151 : decode cX4_isValue 151 = .ok (.ifCond .eq 17, 3) := dk_153 0 17 (dk_at dksX4_isValue_4 3 rfl rfl)
theorem dX4_isValue_154 : decode cX4_isValue 154 = .ok (.aload_n 0, 1) := dk_42 (dk_at dksX4_isValue_4 6 rfl rfl)
theorem dX4_isValue_155 : decode cX4_isValue 155 = .ok (.aload_n 1, 1) := dk_43 (dk_at dksX4_isValue_4 7 rfl rfl)
theorem dX4_isValue_156 : decode cX4_isValue 156 = .ok (.bipush 25, 2) := dk_16 25 (dk_at dksX4_isValue_4 8 rfl rfl)
theorem dX4_isValue_158 : decode cX4_isValue 158 = .ok (.invokevirtual 306, 3) := dk_182 1 50 (dk_at dksX4_isValue_4 10 rfl rfl)
theorem dX4_isValue_161 : decode cX4_isValue 161 = .ok (.ifCond .eq 7, 3) := dk_153 0 7 (dk_at dksX4_isValue_4 13 rfl rfl)
theorem dX4_isValue_164 : decode cX4_isValue 164 = .ok (.iconst 1, 1) := dk_4 (dk_at dksX4_isValue_4 16 rfl rfl)
theorem dX4_isValue_165 : decode cX4_isValue 165 = .ok (.goto 4, 3) := dk_167 0 4 (dk_at dksX4_isValue_4 17 rfl rfl)
theorem dX4_isValue_168 : decode cX4_isValue 168 = .ok (.iconst 0, 1) := dk_3 (dk_at dksX4_isValue_4 20 rfl rfl)
theorem dX4_isValue_169 : decode cX4_isValue 169 = .ok (.ireturn, 1) := dk_172 (dk_at dksX4_isValue_4 21 rfl rfl)
theorem dX4_isValue_170 : decode cX4_isValue 170 = .ok (.aload_n 0, 1) := dk_42 (dk_at dksX4_isValue_4 22 rfl rfl)
theorem dX4_isValue_171 : decode cX4_isValue 171 = .ok (.dup, 1) := dk_89 (dk_at dksX4_isValue_4 23 rfl rfl)
theorem dX4_isValue_172 : decode cX4_isValue 172 = .ok (.getfield 267, 3) := dk_180 1 11 (dk_at dksX4_isValue_5 0 rfl rfl)
theorem dX4_isValue_175 : decode cX4_isValue 175 = .ok (.iconst 1, 1) := dk_4 (dk_at dksX4_isValue_5 3 rfl rfl)
theorem dX4_isValue_176 : decode cX4_isValue 176 = .ok (.iadd, 1) := dk_96 (dk_at dksX4_isValue_5 4 rfl rfl)
theorem dX4_isValue_177 : decode cX4_isValue 177 = .ok (.putfield 267, 3) := dk_181 1 11 (dk_at dksX4_isValue_5 5 rfl rfl)
theorem dX4_isValue_180 : decode cX4_isValue 180 = .ok (.aload_n 0, 1) := dk_42 (dk_at dksX4_isValue_5 8 rfl rfl)
theorem dX4_isValue_181 : decode cX4_isValue 181 = .ok (.aload_n 1, 1) := dk_43 (dk_at dksX4_isValue_5 9 rfl rfl)
theorem dX4_isValue_182 : decode cX4_isValue 182 = .ok (.bipush 24, 2) := dk_16 24 (dk_at dksX4_isValue_5 10 rfl rfl)
theorem dX4_isValue_184 : decode cX4_isValue 184 = .ok (.invokevirtual 302, 3) := dk_182 1 46 (dk_at dksX4_isValue_5 12 rfl rfl)
theorem dX4_isValue_187 : decode cX4_isValue 187 = .ok (.ifCond .eq 25, 3) := dk_153 0 25 (dk_at dksX4_isValue_5 15 rfl rfl)
theorem dX4_isValue_190 : decode cX4_isValue 190 = .ok (.aload_n 0, 1) := dk_42 (dk_at dksX4_isValue_5 18 rfl rfl)
theorem dX4_isValue_191 : decode cX4_isValue 191 = .ok (.aload_n 1, 1) := dk_43 (dk_at dksX4_isValue_5 19 rfl rfl)
theorem dX4_isValue_192 : decode cX4_isValue 192 = .ok (.invokevirtual 281, 3) := dk_182 1 25 (dk_at dksX4_isValue_5 20 rfl rfl)
theorem dX4_isValue_195 : decode cX4_isValue 195 = .ok (.ifCond .eq 17, 3) := dk_153 0 17 (dk_at dksX4_isValue_6 0 rfl rfl)
theorem dX4_isValue_198 : decode cX4_isValue 198 = .ok (.aload_n 0, 1) := dk_42 (dk_at dksX4_isValue_6 3 rfl rfl)
theorem dX4_isValue_199 : decode cX4_isValue 199 = .ok (.aload_n 1, 1) := dk_43 (dk_at dksX4_isValue_6 4 rfl rfl)
theorem dX4_isValue_200 : decode cX4_isValue 200 = .ok (.bipush 25, 2) := dk_16 25 (dk_at dksX4_isValue_6 5 rfl rfl)
theorem dX4_isValue_202 : decode cX4_isValue 202 = .ok (.invokevirtual 306, 3) := dk_182 1 50 (dk_at dksX4_isValue_6 7 rfl rfl)
theorem dX4_isValue_205 : decode cX4_isValue 205 = .ok (.ifCond .eq 7, 3) := dk_153 0 7 (dk_at dksX4_isValue_6 10 rfl rfl)
theorem dX4_isValue_208 : decode cX4_isValue 208 = .ok (.iconst 1, 1) := dk_4 (dk_at dksX4_isValue_6 13 rfl rfl)
theorem dX4_isValue_209 : decode cX4_isValue 209 = .ok (.goto 4, 3) := dk_167 0 4 (dk_at dksX4_isValue_6 14 rfl rfl)
theorem dX4_isValue_212 : decode cX4_isValue 212 = .ok (.iconst 0, 1) := dk_3 (dk_at dksX4_isValue_6 17 rfl rfl)
theorem dX4_isValue_213 : decode cX4_isValue 213 = .ok (.ireturn, 1) := dk_172 (dk_at dksX4_isValue_6 18 rfl rfl)
theorem dX4_isValue_214 : decode cX4_isValue 214 = .ok (.aload_n 0, 1) := dk_42 (dk_at dksX4_isValue_6 19 rfl rfl)
theorem dX4_isValue_215 : decode cX4_isValue 215 = .ok (.dup, 1) := dk_89 (dk_at dksX4_isValue_6 20 rfl rfl)
theorem dX4_isValue_216 : decode cX4_isValue 216 = .ok (.getfield 267, 3) := dk_180 1 11 (dk_at dksX4_isValue_6 21 rfl rfl)
theorem dX4_isValue_219 : decode cX4_isValue 219 = .ok (.iconst 1, 1) := dk_4 (dk_at dksX4_isValue_7 0 rfl rfl)
theorem dX4_isValue_220 : decode cX4_isValue 220 = .ok (.iadd, 1) := dk_96 (dk_at dksX4_isValue_7 1 rfl rfl)
theorem dX4_isValue_221 : decode cX4_isValue 221 = .ok (.putfield 267, 3) := dk_181 1 11 (dk_at dksX4_isValue_7 2 rfl rfl)
theorem dX4_isValue_224 : decode cX4_isValue 224 = .ok (.aload_n 0, 1) := dk_42 (dk_at dksX4_isValue_7 5 rfl rfl)
theorem dX4_isValue_225 : decode cX4_isValue 225 = .ok (.aload_n 1, 1) := dk_43 (dk_at dksX4_isValue_7 6 rfl rfl)
theorem dX4_isValue_226 : decode cX4_isValue 226 = .ok (.iconst 1, 1) := dk_4 (dk_at dksX4_isValue_7 7 rfl rfl)
theorem dX4_isValue_227 : decode cX4_isValue 227 = .ok (.newarray .int, 2) := dk_188_10 (dk_at dksX4_isValue_7 8 rfl rfl)
theorem dX4_isValue_229 : decode cX4_isValue 229 = .ok (.dup, 1) := dk_89 (dk_at dksX4_isValue_7 10 rfl rfl)
theorem dX4_isValue_230 : decode cX4_isValue 230 = .ok (.iconst 0, 1) := dk_3 (dk_at dksX4_isValue_7 11 rfl rfl)
theorem dX4_isValue_231 : decode cX4_isValue 231 = .ok (.bipush 20, 2) := dk_16 20 (dk_at dksX4_isValue_7 12 rfl rfl)
theorem dX4_isValue_233 : decode cX4_isValue 233 = .ok (.iastore, 1) := dk_79 (dk_at dksX4_isValue_7 14 rfl rfl)
theorem dX4_isValue_234 : decode cX4_isValue 234 = .ok (.invokevirtual 273, 3) := dk_182 1 17 (dk_at dksX4_isValue_7 15 rfl rfl)
theorem dX4_isValue_237 : decode cX4_isValue 237 = .ok (.ireturn, 1) := dk_172 (dk_at dksX4_isValue_7 18 rfl rfl)
theorem dX4_isValue_238 : decode cX4_isValue 238 = .ok (.aload_n 0, 1) := dk_42 (dk_at dksX4_isValue_7 19 rfl rfl)
theorem dX4_isValue_239 : decode cX4_isValue 239 = .ok (.aload_n 1, 1) := dk_43 (dk_at dksX4_isValue_7 20 rfl rfl)
theorem dX4_isValue_240 : decode cX4_isValue 240 = .ok (.iconst 3, 1) := dk_6 (dk_at dksX4_isValue_7 21 rfl rfl)
theorem dX4_isValue_241 : decode cX4_isValue 241 = .ok (.newarray .int, 2) := dk_188_10 (dk_at dksX4_isValue_7 22 rfl rfl)
theorem dX4_isValue_243 : decode cX4_isValue 243 = .ok (.dup, 1) := dk_89 (dk_at dksX4_isValue_8 0 rfl rfl)
theorem dX4_isValue_244 : decode cX4_isValue 244 = .ok (.iconst 0, 1) := dk_3 (dk_at dksX4_isValue_8 1 rfl rfl)
theorem dX4_isValue_245 : decode cX4_isValue 245 = .ok (.bipush 13, 2) := dk_16 13 (dk_at dksX4_isValue_8 2 rfl rfl)
theorem dX4_isValue_247 : decode cX4_isValue 247 = .ok (.iastore, 1) := dk_79 (dk_at dksX4_isValue_8 4 rfl rfl)
theorem dX4_isValue_248 : decode cX4_isValue 248 = .ok (.dup, 1) := dk_89 (dk_at dksX4_isValue_8 5 rfl rfl)
theorem dX4_isValue_249 : decode cX4_isValue 249 = .ok (.iconst 1, 1) := dk_4 (dk_at dksX4_isValue_8 6 rfl rfl)
theorem dX4_isValue_250 : decode cX4_isValue 250 = .ok (.bipush 20, 2) := dk_16 20 (dk_at dksX4_isValue_8 7 rfl rfl)
theorem dX4_isValue_252 : decode cX4_isValue 252 = .ok (.iastore, 1) := dk_79 (dk_at dksX4_isValue_8 9 rfl rfl)
theorem dX4_isValue_253 : decode cX4_isValue 253 = .ok (.dup, 1) := dk_89 (dk_at dksX4_isValue_8 10 rfl rfl)
theorem dX4_isValue_254 : decode cX4_isValue 254 = .ok (.iconst 2, 1) := dk_5 (dk_at dksX4_isValue_8 11 rfl rfl)
theorem dX4_isValue_255 : decode cX4_isValue 255 = .ok (.bipush 20, 2) := dk_16 20 (dk_at dksX4_isValue_8 12 rfl rfl)
theorem dX4_isValue_257 : decode cX4_isValue 257 = .ok (.iastore, 1) := dk_79 (dk_at dksX4_isValue_8 14 rfl rfl)
theorem dX4_isValue_258 : decode cX4_isValue 258 = .ok (.invokevirtual 273, 3) := dk_182 1 17 (dk_at dksX4_isValue_8 15 rfl rfl)
theorem dX4_isValue_261 : decode cX4_isValue 261 = .ok (.ireturn, 1) := dk_172 (dk_at dksX4_isValue_8 18 rfl rfl)
theorem dX4_isValue_262 : decode cX4_isValue 262 = .ok (.aload_n 0, 1) := dk_42 (dk_at dksX4_isValue_8 19 rfl rfl)
theorem dX4_isValue_263 : decode cX4_isValue 263 = .ok (.dup, 1) := dk_89 (dk_at dksX4_isValue_8 20 rfl rfl)
theorem dX4_isValue_264 : decode cX4_isValue 264 = .ok (.getfield 267, 3) := dk_180 1 11 (dk_at dksX4_isValue_8 21 rfl rfl)
theorem dX4_isValue_267 : decode cX4_isValue 267 = .ok (.iconst 1, 1) := dk_4 (dk_at dksX4_isValue_9 0 rfl rfl)
theorem dX4_isValue_268 : decode cX4_isValue 268 = .ok (.iadd, 1) := dk_96 (dk_at dksX4_isValue_9 1 rfl rfl)
theorem dX4_isValue_269 : decode cX4_isValue 269 = .ok (.putfield 267, 3) := dk_181 1 11 (dk_at dksX4_isValue_9 2 rfl rfl)
theorem dX4_isValue_272 : decode cX4_isValue 272 = .ok (.iconst 1, 1) := dk_4 (dk_at dksX4_isValue_9 5 rfl rfl)
theorem dX4_isValue_273 : decode cX4_isValue 273 = .ok (.ireturn, 1) := dk_172 (dk_at dksX4_isValue_9 6 rfl rfl)
theorem dX4_isValue_274 : decode cX4_isValue 274 = .ok (.iconst 0, 1) := dk_3 (dk_at dksX4_isValue_9 7 rfl rfl)
theorem dX4_isValue_275 : decode cX4_isValue 275 = .ok (.ireturn, 1) := dk_172 (dk_at dksX4_isValue_9 8 rfl rfl)
abbrev cX4_enter : ByteArray := prog_40_method_49_code
def yX4_enter : MethodName := ⟨RX4, "enter", "(LGridTableModel$Sheet;I)Z"⟩
def dkwX4_enter_1 : List UInt8 := [42, 89, 180, 1, 14, 4, 96, 181, 1, 14, 42, 89, 180, 1, 11, 4, 96, 181, 1, 11, 4, 172]
abbrev dktX4_enter_1 : List UInt8 := dkwX4_enter_1 ++ []
def dkwX4_enter_0 : List UInt8 := [43, 180, 0, 128, 42, 180, 1, 11, 46, 28, 160, 0, 12, 42, 180, 1, 14, 16, 8, 160, 0, 5, 3, 172]
abbrev dktX4_enter_0 : List UInt8 := dkwX4_enter_0 ++ dktX4_enter_1
theorem dksX4_enter_0 : cX4_enter.data.toList.drop 0 = dktX4_enter_0 := by decide +kernel
theorem dksX4_enter_1 : cX4_enter.data.toList.drop 24 = dktX4_enter_1 := dk_seg dksX4_enter_0 24 rfl rfl
theorem dX4_enter_0 : decode cX4_enter 0 = .ok (.aload_n 1, 1) := dk_43 (dk_at dksX4_enter_0 0 rfl rfl)
theorem dX4_enter_1 : decode cX4_enter 1 = .ok (.getfield 128, 3) := dk_180 0 128 (dk_at dksX4_enter_0 1 rfl rfl)
theorem dX4_enter_4 : decode cX4_enter 4 = .ok (.aload_n 0, 1) := dk_42 (dk_at dksX4_enter_0 4 rfl rfl)
theorem dX4_enter_5 : decode cX4_enter 5 = .ok (.getfield 267, 3) := dk_180 1 11 (dk_at dksX4_enter_0 5 rfl rfl)
theorem dX4_enter_8 : decode cX4_enter 8 = .ok (.iaload, 1) := dk_46 (dk_at dksX4_enter_0 8 rfl rfl)
theorem dX4_enter_9 : decode cX4_enter 9 = .ok (.iload_n 2, 1) := dk_28 (dk_at dksX4_enter_0 9 rfl rfl)
theorem dX4_enter_10 : decode cX4_enter 10 = .ok (.if_icmp .ne 12, 3) := dk_160 0 12 (dk_at dksX4_enter_0 10 rfl rfl)
theorem dX4_enter_13 : decode cX4_enter 13 = .ok (.aload_n 0, 1) := dk_42 (dk_at dksX4_enter_0 13 rfl rfl)
theorem dX4_enter_14 : decode cX4_enter 14 = .ok (.getfield 270, 3) := dk_180 1 14 (dk_at dksX4_enter_0 14 rfl rfl)
theorem dX4_enter_17 : decode cX4_enter 17 = .ok (.bipush 8, 2) := dk_16 8 (dk_at dksX4_enter_0 17 rfl rfl)
theorem dX4_enter_19 : decode cX4_enter 19 = .ok (.if_icmp .ne 5, 3) := dk_160 0 5 (dk_at dksX4_enter_0 19 rfl rfl)
theorem dX4_enter_22 : decode cX4_enter 22 = .ok (.iconst 0, 1) := dk_3 (dk_at dksX4_enter_0 22 rfl rfl)
theorem dX4_enter_23 : decode cX4_enter 23 = .ok (.ireturn, 1) := dk_172 (dk_at dksX4_enter_0 23 rfl rfl)
theorem dX4_enter_24 : decode cX4_enter 24 = .ok (.aload_n 0, 1) := dk_42 (dk_at dksX4_enter_1 0 rfl rfl)
theorem dX4_enter_25 : decode cX4_enter 25 = .ok (.dup, 1) := dk_89 (dk_at dksX4_enter_1 1 rfl rfl)
theorem dX4_enter_26 : decode cX4_enter 26 = .ok (.getfield 270, 3) := dk_180 1 14 (dk_at dksX4_enter_1 2 rfl rfl)
theorem dX4_enter_29 : decode cX4_enter 29 = .ok (.iconst 1, 1) := dk_4 (dk_at dksX4_enter_1 5 rfl rfl)
theorem dX4_enter_30 : decode cX4_enter 30 = .ok (.iadd, 1) := dk_96 (dk_at dksX4_enter_1 6 rfl rfl)
theorem dX4_enter_31 : decode cX4_enter 31 = .ok (.putfield 270, 3) := dk_181 1 14 (dk_at dksX4_enter_1 7 rfl rfl)
theorem dX4_enter_34 : decode cX4_enter 34 = .ok (.aload_n 0, 1) := dk_42 (dk_at dksX4_enter_1 10 rfl rfl)
theorem dX4_enter_35 : decode cX4_enter 35 = .ok (.dup, 1) := dk_89 (dk_at dksX4_enter_1 11 rfl rfl)
theorem dX4_enter_36 : decode cX4_enter 36 = .ok (.getfield 267, 3) := dk_180 1 11 (dk_at dksX4_enter_1 12 rfl rfl)
theorem dX4_enter_39 : decode cX4_enter 39 = .ok (.iconst 1, 1) := dk_4 (dk_at dksX4_enter_1 15 rfl rfl)
theorem dX4_enter_40 : decode cX4_enter 40 = .ok (.iadd, 1) := dk_96 (dk_at dksX4_enter_1 16 rfl rfl)
theorem dX4_enter_41 : decode cX4_enter 41 = .ok (.putfield 267, 3) := dk_181 1 11 (dk_at dksX4_enter_1 17 rfl rfl)
theorem dX4_enter_44 : decode cX4_enter 44 = .ok (.iconst 1, 1) := dk_4 (dk_at dksX4_enter_1 20 rfl rfl)
theorem dX4_enter_45 : decode cX4_enter 45 = .ok (.ireturn, 1) := dk_172 (dk_at dksX4_enter_1 21 rfl rfl)
abbrev cX4_leave : ByteArray := prog_40_method_50_code
def yX4_leave : MethodName := ⟨RX4, "leave", "(LGridTableModel$Sheet;I)Z"⟩
def dkwX4_leave_1 : List UInt8 := [181, 1, 14, 4, 172]
abbrev dktX4_leave_1 : List UInt8 := dkwX4_leave_1 ++ []
def dkwX4_leave_0 : List UInt8 := [42, 43, 4, 188, 10, 89, 3, 28, 79, 182, 1, 17, 154, 0, 5, 3, 172, 42, 89, 180, 1, 14, 4, 100]
abbrev dktX4_leave_0 : List UInt8 := dkwX4_leave_0 ++ dktX4_leave_1
theorem dksX4_leave_0 : cX4_leave.data.toList.drop 0 = dktX4_leave_0 := by decide +kernel
theorem dksX4_leave_1 : cX4_leave.data.toList.drop 24 = dktX4_leave_1 := dk_seg dksX4_leave_0 24 rfl rfl
theorem dX4_leave_0 : decode cX4_leave 0 = .ok (.aload_n 0, 1) := dk_42 (dk_at dksX4_leave_0 0 rfl rfl)
theorem dX4_leave_1 : decode cX4_leave 1 = .ok (.aload_n 1, 1) := dk_43 (dk_at dksX4_leave_0 1 rfl rfl)
theorem dX4_leave_2 : decode cX4_leave 2 = .ok (.iconst 1, 1) := dk_4 (dk_at dksX4_leave_0 2 rfl rfl)
theorem dX4_leave_3 : decode cX4_leave 3 = .ok (.newarray .int, 2) := dk_188_10 (dk_at dksX4_leave_0 3 rfl rfl)
theorem dX4_leave_5 : decode cX4_leave 5 = .ok (.dup, 1) := dk_89 (dk_at dksX4_leave_0 5 rfl rfl)
theorem dX4_leave_6 : decode cX4_leave 6 = .ok (.iconst 0, 1) := dk_3 (dk_at dksX4_leave_0 6 rfl rfl)
theorem dX4_leave_7 : decode cX4_leave 7 = .ok (.iload_n 2, 1) := dk_28 (dk_at dksX4_leave_0 7 rfl rfl)
theorem dX4_leave_8 : decode cX4_leave 8 = .ok (.iastore, 1) := dk_79 (dk_at dksX4_leave_0 8 rfl rfl)
theorem dX4_leave_9 : decode cX4_leave 9 = .ok (.invokevirtual 273, 3) := dk_182 1 17 (dk_at dksX4_leave_0 9 rfl rfl)
theorem dX4_leave_12 : decode cX4_leave 12 = .ok (.ifCond .ne 5, 3) := dk_154 0 5 (dk_at dksX4_leave_0 12 rfl rfl)
theorem dX4_leave_15 : decode cX4_leave 15 = .ok (.iconst 0, 1) := dk_3 (dk_at dksX4_leave_0 15 rfl rfl)
theorem dX4_leave_16 : decode cX4_leave 16 = .ok (.ireturn, 1) := dk_172 (dk_at dksX4_leave_0 16 rfl rfl)
theorem dX4_leave_17 : decode cX4_leave 17 = .ok (.aload_n 0, 1) := dk_42 (dk_at dksX4_leave_0 17 rfl rfl)
theorem dX4_leave_18 : decode cX4_leave 18 = .ok (.dup, 1) := dk_89 (dk_at dksX4_leave_0 18 rfl rfl)
theorem dX4_leave_19 : decode cX4_leave 19 = .ok (.getfield 270, 3) := dk_180 1 14 (dk_at dksX4_leave_0 19 rfl rfl)
theorem dX4_leave_22 : decode cX4_leave 22 = .ok (.iconst 1, 1) := dk_4 (dk_at dksX4_leave_0 22 rfl rfl)
theorem dX4_leave_23 : decode cX4_leave 23 = .ok (.isub, 1) := dk_100 (dk_at dksX4_leave_0 23 rfl rfl)
theorem dX4_leave_24 : decode cX4_leave 24 = .ok (.putfield 270, 3) := dk_181 1 14 (dk_at dksX4_leave_1 0 rfl rfl)
theorem dX4_leave_27 : decode cX4_leave 27 = .ok (.iconst 1, 1) := dk_4 (dk_at dksX4_leave_1 3 rfl rfl)
theorem dX4_leave_28 : decode cX4_leave 28 = .ok (.ireturn, 1) := dk_172 (dk_at dksX4_leave_1 4 rfl rfl)
abbrev cX4_isShapeLine : ByteArray := prog_40_method_55_code
def yX4_isShapeLine : MethodName := ⟨RX4, "isShapeLine", "(LGridTableModel$Sheet;)Z"⟩
def dkwX4_isShapeLine_2 : List UInt8 := [180, 1, 11, 46, 16, 20, 160, 0, 16, 42, 89, 180, 1, 11, 4, 96, 181, 1, 11, 167, 255, 232, 4, 172]
abbrev dktX4_isShapeLine_2 : List UInt8 := dkwX4_isShapeLine_2 ++ []
def dkwX4_isShapeLine_1 : List UInt8 := [89, 7, 16, 20, 79, 89, 8, 16, 20, 79, 182, 1, 17, 154, 0, 5, 3, 172, 43, 180, 0, 128, 42]
abbrev dktX4_isShapeLine_1 : List UInt8 := dkwX4_isShapeLine_1 ++ dktX4_isShapeLine_2
def dkwX4_isShapeLine_0 : List UInt8 := [42, 43, 16, 6, 188, 10, 89, 3, 5, 79, 89, 4, 16, 20, 79, 89, 5, 6, 79, 89, 6, 16, 20, 79]
abbrev dktX4_isShapeLine_0 : List UInt8 := dkwX4_isShapeLine_0 ++ dktX4_isShapeLine_1
theorem dksX4_isShapeLine_0 : cX4_isShapeLine.data.toList.drop 0 = dktX4_isShapeLine_0 := by decide +kernel
theorem dksX4_isShapeLine_1 : cX4_isShapeLine.data.toList.drop 24 = dktX4_isShapeLine_1 := dk_seg dksX4_isShapeLine_0 24 rfl rfl
theorem dksX4_isShapeLine_2 : cX4_isShapeLine.data.toList.drop 47 = dktX4_isShapeLine_2 := dk_seg dksX4_isShapeLine_1 23 rfl rfl
theorem dX4_isShapeLine_0 : decode cX4_isShapeLine 0 = .ok (.aload_n 0, 1) := dk_42 (dk_at dksX4_isShapeLine_0 0 rfl rfl)
theorem dX4_isShapeLine_1 : decode cX4_isShapeLine 1 = .ok (.aload_n 1, 1) := dk_43 (dk_at dksX4_isShapeLine_0 1 rfl rfl)
theorem dX4_isShapeLine_2 : decode cX4_isShapeLine 2 = .ok (.bipush 6, 2) := dk_16 6 (dk_at dksX4_isShapeLine_0 2 rfl rfl)
theorem dX4_isShapeLine_4 : decode cX4_isShapeLine 4 = .ok (.newarray .int, 2) := dk_188_10 (dk_at dksX4_isShapeLine_0 4 rfl rfl)
theorem dX4_isShapeLine_6 : decode cX4_isShapeLine 6 = .ok (.dup, 1) := dk_89 (dk_at dksX4_isShapeLine_0 6 rfl rfl)
theorem dX4_isShapeLine_7 : decode cX4_isShapeLine 7 = .ok (.iconst 0, 1) := dk_3 (dk_at dksX4_isShapeLine_0 7 rfl rfl)
theorem dX4_isShapeLine_8 : decode cX4_isShapeLine 8 = .ok (.iconst 2, 1) := dk_5 (dk_at dksX4_isShapeLine_0 8 rfl rfl)
theorem dX4_isShapeLine_9 : decode cX4_isShapeLine 9 = .ok (.iastore, 1) := dk_79 (dk_at dksX4_isShapeLine_0 9 rfl rfl)
theorem dX4_isShapeLine_10 : decode cX4_isShapeLine 10 = .ok (.dup, 1) := dk_89 (dk_at dksX4_isShapeLine_0 10 rfl rfl)
theorem dX4_isShapeLine_11 : decode cX4_isShapeLine 11 = .ok (.iconst 1, 1) := dk_4 (dk_at dksX4_isShapeLine_0 11 rfl rfl)
theorem dX4_isShapeLine_12 : decode cX4_isShapeLine 12 = .ok (.bipush 20, 2) := dk_16 20 (dk_at dksX4_isShapeLine_0 12 rfl rfl)
theorem dX4_isShapeLine_14 : decode cX4_isShapeLine 14 = .ok (.iastore, 1) := dk_79 (dk_at dksX4_isShapeLine_0 14 rfl rfl)
theorem dX4_isShapeLine_15 : decode cX4_isShapeLine 15 = .ok (.dup, 1) := dk_89 (dk_at dksX4_isShapeLine_0 15 rfl rfl)
theorem dX4_isShapeLine_16 : decode cX4_isShapeLine 16 = .ok (.iconst 2, 1) := dk_5 (dk_at dksX4_isShapeLine_0 16 rfl rfl)
theorem dX4_isShapeLine_17 : decode cX4_isShapeLine 17 = .ok (.iconst 3, 1) := dk_6 (dk_at dksX4_isShapeLine_0 17 rfl rfl)
theorem dX4_isShapeLine_18 : decode cX4_isShapeLine 18 = .ok (.iastore, 1) := dk_79 (dk_at dksX4_isShapeLine_0 18 rfl rfl)
theorem dX4_isShapeLine_19 : decode cX4_isShapeLine 19 = .ok (.dup, 1) := dk_89 (dk_at dksX4_isShapeLine_0 19 rfl rfl)
theorem dX4_isShapeLine_20 : decode cX4_isShapeLine 20 = .ok (.iconst 3, 1) := dk_6 (dk_at dksX4_isShapeLine_0 20 rfl rfl)
theorem dX4_isShapeLine_21 : decode cX4_isShapeLine 21 = .ok (.bipush 20, 2) := dk_16 20 (dk_at dksX4_isShapeLine_0 21 rfl rfl)
theorem dX4_isShapeLine_23 : decode cX4_isShapeLine 23 = .ok (.iastore, 1) := dk_79 (dk_at dksX4_isShapeLine_0 23 rfl rfl)
theorem dX4_isShapeLine_24 : decode cX4_isShapeLine 24 = .ok (.dup, 1) := dk_89 (dk_at dksX4_isShapeLine_1 0 rfl rfl)
theorem dX4_isShapeLine_25 : decode cX4_isShapeLine 25 = .ok (.iconst 4, 1) := dk_7 (dk_at dksX4_isShapeLine_1 1 rfl rfl)
theorem dX4_isShapeLine_26 : decode cX4_isShapeLine 26 = .ok (.bipush 20, 2) := dk_16 20 (dk_at dksX4_isShapeLine_1 2 rfl rfl)
theorem dX4_isShapeLine_28 : decode cX4_isShapeLine 28 = .ok (.iastore, 1) := dk_79 (dk_at dksX4_isShapeLine_1 4 rfl rfl)
theorem dX4_isShapeLine_29 : decode cX4_isShapeLine 29 = .ok (.dup, 1) := dk_89 (dk_at dksX4_isShapeLine_1 5 rfl rfl)
theorem dX4_isShapeLine_30 : decode cX4_isShapeLine 30 = .ok (.iconst 5, 1) := dk_8 (dk_at dksX4_isShapeLine_1 6 rfl rfl)
theorem dX4_isShapeLine_31 : decode cX4_isShapeLine 31 = .ok (.bipush 20, 2) := dk_16 20 (dk_at dksX4_isShapeLine_1 7 rfl rfl)
theorem dX4_isShapeLine_33 : decode cX4_isShapeLine 33 = .ok (.iastore, 1) := dk_79 (dk_at dksX4_isShapeLine_1 9 rfl rfl)
theorem dX4_isShapeLine_34 : decode cX4_isShapeLine 34 = .ok (.invokevirtual 273, 3) := dk_182 1 17 (dk_at dksX4_isShapeLine_1 10 rfl rfl)
theorem dX4_isShapeLine_37 : decode cX4_isShapeLine 37 = .ok (.ifCond .ne 5, 3) := dk_154 0 5 (dk_at dksX4_isShapeLine_1 13 rfl rfl)
theorem dX4_isShapeLine_40 : decode cX4_isShapeLine 40 = .ok (.iconst 0, 1) := dk_3 (dk_at dksX4_isShapeLine_1 16 rfl rfl)
theorem dX4_isShapeLine_41 : decode cX4_isShapeLine 41 = .ok (.ireturn, 1) := dk_172 (dk_at dksX4_isShapeLine_1 17 rfl rfl)
theorem dX4_isShapeLine_42 : decode cX4_isShapeLine 42 = .ok (.aload_n 1, 1) := dk_43 (dk_at dksX4_isShapeLine_1 18 rfl rfl)
theorem dX4_isShapeLine_43 : decode cX4_isShapeLine 43 = .ok (.getfield 128, 3) := dk_180 0 128 (dk_at dksX4_isShapeLine_1 19 rfl rfl)
theorem dX4_isShapeLine_46 : decode cX4_isShapeLine 46 = .ok (.aload_n 0, 1) := dk_42 (dk_at dksX4_isShapeLine_1 22 rfl rfl)
theorem dX4_isShapeLine_47 : decode cX4_isShapeLine 47 = .ok (.getfield 267, 3) := dk_180 1 11 (dk_at dksX4_isShapeLine_2 0 rfl rfl)
theorem dX4_isShapeLine_50 : decode cX4_isShapeLine 50 = .ok (.iaload, 1) := dk_46 (dk_at dksX4_isShapeLine_2 3 rfl rfl)
theorem dX4_isShapeLine_51 : decode cX4_isShapeLine 51 = .ok (.bipush 20, 2) := dk_16 20 (dk_at dksX4_isShapeLine_2 4 rfl rfl)
theorem dX4_isShapeLine_53 : decode cX4_isShapeLine 53 = .ok (.if_icmp .ne 16, 3) := dk_160 0 16 (dk_at dksX4_isShapeLine_2 6 rfl rfl)
theorem dX4_isShapeLine_56 : decode cX4_isShapeLine 56 = .ok (.aload_n 0, 1) := dk_42 (dk_at dksX4_isShapeLine_2 9 rfl rfl)
theorem dX4_isShapeLine_57 : decode cX4_isShapeLine 57 = .ok (.dup, 1) := dk_89 (dk_at dksX4_isShapeLine_2 10 rfl rfl)
theorem dX4_isShapeLine_58 : decode cX4_isShapeLine 58 = .ok (.getfield 267, 3) := dk_180 1 11 (dk_at dksX4_isShapeLine_2 11 rfl rfl)
theorem dX4_isShapeLine_61 : decode cX4_isShapeLine 61 = .ok (.iconst 1, 1) := dk_4 (dk_at dksX4_isShapeLine_2 14 rfl rfl)
theorem dX4_isShapeLine_62 : decode cX4_isShapeLine 62 = .ok (.iadd, 1) := dk_96 (dk_at dksX4_isShapeLine_2 15 rfl rfl)
theorem dX4_isShapeLine_63 : decode cX4_isShapeLine 63 = .ok (.putfield 267, 3) := dk_181 1 11 (dk_at dksX4_isShapeLine_2 16 rfl rfl)
theorem dX4_isShapeLine_66 : decode cX4_isShapeLine 66 = .ok (.goto (-24), 3) := dk_167 255 232 (dk_at dksX4_isShapeLine_2 19 rfl rfl)
theorem dX4_isShapeLine_69 : decode cX4_isShapeLine 69 = .ok (.iconst 1, 1) := dk_4 (dk_at dksX4_isShapeLine_2 22 rfl rfl)
theorem dX4_isShapeLine_70 : decode cX4_isShapeLine 70 = .ok (.ireturn, 1) := dk_172 (dk_at dksX4_isShapeLine_2 23 rfl rfl)
abbrev cX4_mayTest : ByteArray := prog_40_method_54_code
def yX4_mayTest : MethodName := ⟨RX4, "mayTest", "(LGridTableModel$Sheet;)Z"⟩
def dkwX4_mayTest_1 : List UInt8 := [182, 1, 17, 153, 0, 15, 42, 43, 182, 1, 37, 153, 0, 7, 4, 167, 0, 4, 3, 172]
abbrev dktX4_mayTest_1 : List UInt8 := dkwX4_mayTest_1 ++ []
def dkwX4_mayTest_0 : List UInt8 := [43, 180, 0, 128, 42, 180, 1, 11, 46, 16, 9, 160, 0, 27, 42, 43, 4, 188, 10, 89, 3, 16, 9, 79]
abbrev dktX4_mayTest_0 : List UInt8 := dkwX4_mayTest_0 ++ dktX4_mayTest_1
theorem dksX4_mayTest_0 : cX4_mayTest.data.toList.drop 0 = dktX4_mayTest_0 := by decide +kernel
theorem dksX4_mayTest_1 : cX4_mayTest.data.toList.drop 24 = dktX4_mayTest_1 := dk_seg dksX4_mayTest_0 24 rfl rfl
theorem dX4_mayTest_0 : decode cX4_mayTest 0 = .ok (.aload_n 1, 1) := dk_43 (dk_at dksX4_mayTest_0 0 rfl rfl)
theorem dX4_mayTest_1 : decode cX4_mayTest 1 = .ok (.getfield 128, 3) := dk_180 0 128 (dk_at dksX4_mayTest_0 1 rfl rfl)
theorem dX4_mayTest_4 : decode cX4_mayTest 4 = .ok (.aload_n 0, 1) := dk_42 (dk_at dksX4_mayTest_0 4 rfl rfl)
theorem dX4_mayTest_5 : decode cX4_mayTest 5 = .ok (.getfield 267, 3) := dk_180 1 11 (dk_at dksX4_mayTest_0 5 rfl rfl)
theorem dX4_mayTest_8 : decode cX4_mayTest 8 = .ok (.iaload, 1) := dk_46 (dk_at dksX4_mayTest_0 8 rfl rfl)
theorem dX4_mayTest_9 : decode cX4_mayTest 9 = .ok (.bipush 9, 2) := dk_16 9 (dk_at dksX4_mayTest_0 9 rfl rfl)
theorem dX4_mayTest_11 : decode cX4_mayTest 11 = .ok (.if_icmp .ne 27, 3) := dk_160 0 27 (dk_at dksX4_mayTest_0 11 rfl rfl)
theorem dX4_mayTest_14 : decode cX4_mayTest 14 = .ok (.aload_n 0, 1) := dk_42 (dk_at dksX4_mayTest_0 14 rfl rfl)
theorem dX4_mayTest_15 : decode cX4_mayTest 15 = .ok (.aload_n 1, 1) := dk_43 (dk_at dksX4_mayTest_0 15 rfl rfl)
theorem dX4_mayTest_16 : decode cX4_mayTest 16 = .ok (.iconst 1, 1) := dk_4 (dk_at dksX4_mayTest_0 16 rfl rfl)
theorem dX4_mayTest_17 : decode cX4_mayTest 17 = .ok (.newarray .int, 2) := dk_188_10 (dk_at dksX4_mayTest_0 17 rfl rfl)
theorem dX4_mayTest_19 : decode cX4_mayTest 19 = .ok (.dup, 1) := dk_89 (dk_at dksX4_mayTest_0 19 rfl rfl)
theorem dX4_mayTest_20 : decode cX4_mayTest 20 = .ok (.iconst 0, 1) := dk_3 (dk_at dksX4_mayTest_0 20 rfl rfl)
theorem dX4_mayTest_21 : decode cX4_mayTest 21 = .ok (.bipush 9, 2) := dk_16 9 (dk_at dksX4_mayTest_0 21 rfl rfl)
theorem dX4_mayTest_23 : decode cX4_mayTest 23 = .ok (.iastore, 1) := dk_79 (dk_at dksX4_mayTest_0 23 rfl rfl)
theorem dX4_mayTest_24 : decode cX4_mayTest 24 = .ok (.invokevirtual 273, 3) := dk_182 1 17 (dk_at dksX4_mayTest_1 0 rfl rfl)
theorem dX4_mayTest_27 : decode cX4_mayTest 27 = .ok (.ifCond .eq 15, 3) := dk_153 0 15 (dk_at dksX4_mayTest_1 3 rfl rfl)
theorem dX4_mayTest_30 : decode cX4_mayTest 30 = .ok (.aload_n 0, 1) := dk_42 (dk_at dksX4_mayTest_1 6 rfl rfl)
theorem dX4_mayTest_31 : decode cX4_mayTest 31 = .ok (.aload_n 1, 1) := dk_43 (dk_at dksX4_mayTest_1 7 rfl rfl)
theorem dX4_mayTest_32 : decode cX4_mayTest 32 = .ok (.invokevirtual 293, 3) := dk_182 1 37 (dk_at dksX4_mayTest_1 8 rfl rfl)
theorem dX4_mayTest_35 : decode cX4_mayTest 35 = .ok (.ifCond .eq 7, 3) := dk_153 0 7 (dk_at dksX4_mayTest_1 11 rfl rfl)
theorem dX4_mayTest_38 : decode cX4_mayTest 38 = .ok (.iconst 1, 1) := dk_4 (dk_at dksX4_mayTest_1 14 rfl rfl)
theorem dX4_mayTest_39 : decode cX4_mayTest 39 = .ok (.goto 4, 3) := dk_167 0 4 (dk_at dksX4_mayTest_1 15 rfl rfl)
theorem dX4_mayTest_42 : decode cX4_mayTest 42 = .ok (.iconst 0, 1) := dk_3 (dk_at dksX4_mayTest_1 18 rfl rfl)
theorem dX4_mayTest_43 : decode cX4_mayTest 43 = .ok (.ireturn, 1) := dk_172 (dk_at dksX4_mayTest_1 19 rfl rfl)
abbrev cX4_isTest : ByteArray := prog_40_method_56_code
def yX4_isTest : MethodName := ⟨RX4, "isTest", "(LGridTableModel$Sheet;)Z"⟩
def dkwX4_isTest_2 : List UInt8 := [3, 172, 4, 172]
abbrev dktX4_isTest_2 : List UInt8 := dkwX4_isTest_2 ++ []
def dkwX4_isTest_1 : List UInt8 := [42, 43, 4, 188, 10, 89, 3, 16, 17, 79, 182, 1, 17, 153, 0, 11, 42, 43, 182, 1, 40, 154, 255, 221]
abbrev dktX4_isTest_1 : List UInt8 := dkwX4_isTest_1 ++ dktX4_isTest_2
def dkwX4_isTest_0 : List UInt8 := [42, 43, 182, 1, 40, 154, 0, 5, 3, 172, 43, 180, 0, 128, 42, 180, 1, 11, 46, 16, 17, 160, 0, 29]
abbrev dktX4_isTest_0 : List UInt8 := dkwX4_isTest_0 ++ dktX4_isTest_1
theorem dksX4_isTest_0 : cX4_isTest.data.toList.drop 0 = dktX4_isTest_0 := by decide +kernel
theorem dksX4_isTest_1 : cX4_isTest.data.toList.drop 24 = dktX4_isTest_1 := dk_seg dksX4_isTest_0 24 rfl rfl
theorem dksX4_isTest_2 : cX4_isTest.data.toList.drop 48 = dktX4_isTest_2 := dk_seg dksX4_isTest_1 24 rfl rfl
theorem dX4_isTest_0 : decode cX4_isTest 0 = .ok (.aload_n 0, 1) := dk_42 (dk_at dksX4_isTest_0 0 rfl rfl)
theorem dX4_isTest_1 : decode cX4_isTest 1 = .ok (.aload_n 1, 1) := dk_43 (dk_at dksX4_isTest_0 1 rfl rfl)
theorem dX4_isTest_2 : decode cX4_isTest 2 = .ok (.invokevirtual 296, 3) := dk_182 1 40 (dk_at dksX4_isTest_0 2 rfl rfl)
theorem dX4_isTest_5 : decode cX4_isTest 5 = .ok (.ifCond .ne 5, 3) := dk_154 0 5 (dk_at dksX4_isTest_0 5 rfl rfl)
theorem dX4_isTest_8 : decode cX4_isTest 8 = .ok (.iconst 0, 1) := dk_3 (dk_at dksX4_isTest_0 8 rfl rfl)
theorem dX4_isTest_9 : decode cX4_isTest 9 = .ok (.ireturn, 1) := dk_172 (dk_at dksX4_isTest_0 9 rfl rfl)
theorem dX4_isTest_10 : decode cX4_isTest 10 = .ok (.aload_n 1, 1) := dk_43 (dk_at dksX4_isTest_0 10 rfl rfl)
theorem dX4_isTest_11 : decode cX4_isTest 11 = .ok (.getfield 128, 3) := dk_180 0 128 (dk_at dksX4_isTest_0 11 rfl rfl)
theorem dX4_isTest_14 : decode cX4_isTest 14 = .ok (.aload_n 0, 1) := dk_42 (dk_at dksX4_isTest_0 14 rfl rfl)
theorem dX4_isTest_15 : decode cX4_isTest 15 = .ok (.getfield 267, 3) := dk_180 1 11 (dk_at dksX4_isTest_0 15 rfl rfl)
theorem dX4_isTest_18 : decode cX4_isTest 18 = .ok (.iaload, 1) := dk_46 (dk_at dksX4_isTest_0 18 rfl rfl)
theorem dX4_isTest_19 : decode cX4_isTest 19 = .ok (.bipush 17, 2) := dk_16 17 (dk_at dksX4_isTest_0 19 rfl rfl)
theorem dX4_isTest_21 : decode cX4_isTest 21 = .ok (.if_icmp .ne 29, 3) := dk_160 0 29 (dk_at dksX4_isTest_0 21 rfl rfl)
theorem dX4_isTest_24 : decode cX4_isTest 24 = .ok (.aload_n 0, 1) := dk_42 (dk_at dksX4_isTest_1 0 rfl rfl)
theorem dX4_isTest_25 : decode cX4_isTest 25 = .ok (.aload_n 1, 1) := dk_43 (dk_at dksX4_isTest_1 1 rfl rfl)
theorem dX4_isTest_26 : decode cX4_isTest 26 = .ok (.iconst 1, 1) := dk_4 (dk_at dksX4_isTest_1 2 rfl rfl)
theorem dX4_isTest_27 : decode cX4_isTest 27 = .ok (.newarray .int, 2) := dk_188_10 (dk_at dksX4_isTest_1 3 rfl rfl)
theorem dX4_isTest_29 : decode cX4_isTest 29 = .ok (.dup, 1) := dk_89 (dk_at dksX4_isTest_1 5 rfl rfl)
theorem dX4_isTest_30 : decode cX4_isTest 30 = .ok (.iconst 0, 1) := dk_3 (dk_at dksX4_isTest_1 6 rfl rfl)
theorem dX4_isTest_31 : decode cX4_isTest 31 = .ok (.bipush 17, 2) := dk_16 17 (dk_at dksX4_isTest_1 7 rfl rfl)
theorem dX4_isTest_33 : decode cX4_isTest 33 = .ok (.iastore, 1) := dk_79 (dk_at dksX4_isTest_1 9 rfl rfl)
theorem dX4_isTest_34 : decode cX4_isTest 34 = .ok (.invokevirtual 273, 3) := dk_182 1 17 (dk_at dksX4_isTest_1 10 rfl rfl)
theorem dX4_isTest_37 : decode cX4_isTest 37 = .ok (.ifCond .eq 11, 3) := dk_153 0 11 (dk_at dksX4_isTest_1 13 rfl rfl)
theorem dX4_isTest_40 : decode cX4_isTest 40 = .ok (.aload_n 0, 1) := dk_42 (dk_at dksX4_isTest_1 16 rfl rfl)
theorem dX4_isTest_41 : decode cX4_isTest 41 = .ok (.aload_n 1, 1) := dk_43 (dk_at dksX4_isTest_1 17 rfl rfl)
theorem dX4_isTest_42 : decode cX4_isTest 42 = .ok (.invokevirtual 296, 3) := dk_182 1 40 (dk_at dksX4_isTest_1 18 rfl rfl)
theorem dX4_isTest_45 : decode cX4_isTest 45 = .ok (.ifCond .ne (-35), 3) := dk_154 255 221 (dk_at dksX4_isTest_1 21 rfl rfl)
theorem dX4_isTest_48 : decode cX4_isTest 48 = .ok (.iconst 0, 1) := dk_3 (dk_at dksX4_isTest_2 0 rfl rfl)
theorem dX4_isTest_49 : decode cX4_isTest 49 = .ok (.ireturn, 1) := dk_172 (dk_at dksX4_isTest_2 1 rfl rfl)
theorem dX4_isTest_50 : decode cX4_isTest 50 = .ok (.iconst 1, 1) := dk_4 (dk_at dksX4_isTest_2 2 rfl rfl)
theorem dX4_isTest_51 : decode cX4_isTest 51 = .ok (.ireturn, 1) := dk_172 (dk_at dksX4_isTest_2 3 rfl rfl)
abbrev cX4_isBoth : ByteArray := prog_40_method_57_code
def yX4_isBoth : MethodName := ⟨RX4, "isBoth", "(LGridTableModel$Sheet;)Z"⟩
def dkwX4_isBoth_2 : List UInt8 := [3, 172, 4, 172]
abbrev dktX4_isBoth_2 : List UInt8 := dkwX4_isBoth_2 ++ []
def dkwX4_isBoth_1 : List UInt8 := [42, 43, 4, 188, 10, 89, 3, 16, 16, 79, 182, 1, 17, 153, 0, 11, 42, 43, 182, 1, 43, 154, 255, 221]
abbrev dktX4_isBoth_1 : List UInt8 := dkwX4_isBoth_1 ++ dktX4_isBoth_2
def dkwX4_isBoth_0 : List UInt8 := [42, 43, 182, 1, 43, 154, 0, 5, 3, 172, 43, 180, 0, 128, 42, 180, 1, 11, 46, 16, 16, 160, 0, 29]
abbrev dktX4_isBoth_0 : List UInt8 := dkwX4_isBoth_0 ++ dktX4_isBoth_1
theorem dksX4_isBoth_0 : cX4_isBoth.data.toList.drop 0 = dktX4_isBoth_0 := by decide +kernel
theorem dksX4_isBoth_1 : cX4_isBoth.data.toList.drop 24 = dktX4_isBoth_1 := dk_seg dksX4_isBoth_0 24 rfl rfl
theorem dksX4_isBoth_2 : cX4_isBoth.data.toList.drop 48 = dktX4_isBoth_2 := dk_seg dksX4_isBoth_1 24 rfl rfl
theorem dX4_isBoth_0 : decode cX4_isBoth 0 = .ok (.aload_n 0, 1) := dk_42 (dk_at dksX4_isBoth_0 0 rfl rfl)
theorem dX4_isBoth_1 : decode cX4_isBoth 1 = .ok (.aload_n 1, 1) := dk_43 (dk_at dksX4_isBoth_0 1 rfl rfl)
theorem dX4_isBoth_2 : decode cX4_isBoth 2 = .ok (.invokevirtual 299, 3) := dk_182 1 43 (dk_at dksX4_isBoth_0 2 rfl rfl)
theorem dX4_isBoth_5 : decode cX4_isBoth 5 = .ok (.ifCond .ne 5, 3) := dk_154 0 5 (dk_at dksX4_isBoth_0 5 rfl rfl)
theorem dX4_isBoth_8 : decode cX4_isBoth 8 = .ok (.iconst 0, 1) := dk_3 (dk_at dksX4_isBoth_0 8 rfl rfl)
theorem dX4_isBoth_9 : decode cX4_isBoth 9 = .ok (.ireturn, 1) := dk_172 (dk_at dksX4_isBoth_0 9 rfl rfl)
theorem dX4_isBoth_10 : decode cX4_isBoth 10 = .ok (.aload_n 1, 1) := dk_43 (dk_at dksX4_isBoth_0 10 rfl rfl)
theorem dX4_isBoth_11 : decode cX4_isBoth 11 = .ok (.getfield 128, 3) := dk_180 0 128 (dk_at dksX4_isBoth_0 11 rfl rfl)
theorem dX4_isBoth_14 : decode cX4_isBoth 14 = .ok (.aload_n 0, 1) := dk_42 (dk_at dksX4_isBoth_0 14 rfl rfl)
theorem dX4_isBoth_15 : decode cX4_isBoth 15 = .ok (.getfield 267, 3) := dk_180 1 11 (dk_at dksX4_isBoth_0 15 rfl rfl)
theorem dX4_isBoth_18 : decode cX4_isBoth 18 = .ok (.iaload, 1) := dk_46 (dk_at dksX4_isBoth_0 18 rfl rfl)
theorem dX4_isBoth_19 : decode cX4_isBoth 19 = .ok (.bipush 16, 2) := dk_16 16 (dk_at dksX4_isBoth_0 19 rfl rfl)
theorem dX4_isBoth_21 : decode cX4_isBoth 21 = .ok (.if_icmp .ne 29, 3) := dk_160 0 29 (dk_at dksX4_isBoth_0 21 rfl rfl)
theorem dX4_isBoth_24 : decode cX4_isBoth 24 = .ok (.aload_n 0, 1) := dk_42 (dk_at dksX4_isBoth_1 0 rfl rfl)
theorem dX4_isBoth_25 : decode cX4_isBoth 25 = .ok (.aload_n 1, 1) := dk_43 (dk_at dksX4_isBoth_1 1 rfl rfl)
theorem dX4_isBoth_26 : decode cX4_isBoth 26 = .ok (.iconst 1, 1) := dk_4 (dk_at dksX4_isBoth_1 2 rfl rfl)
theorem dX4_isBoth_27 : decode cX4_isBoth 27 = .ok (.newarray .int, 2) := dk_188_10 (dk_at dksX4_isBoth_1 3 rfl rfl)
theorem dX4_isBoth_29 : decode cX4_isBoth 29 = .ok (.dup, 1) := dk_89 (dk_at dksX4_isBoth_1 5 rfl rfl)
theorem dX4_isBoth_30 : decode cX4_isBoth 30 = .ok (.iconst 0, 1) := dk_3 (dk_at dksX4_isBoth_1 6 rfl rfl)
theorem dX4_isBoth_31 : decode cX4_isBoth 31 = .ok (.bipush 16, 2) := dk_16 16 (dk_at dksX4_isBoth_1 7 rfl rfl)
theorem dX4_isBoth_33 : decode cX4_isBoth 33 = .ok (.iastore, 1) := dk_79 (dk_at dksX4_isBoth_1 9 rfl rfl)
theorem dX4_isBoth_34 : decode cX4_isBoth 34 = .ok (.invokevirtual 273, 3) := dk_182 1 17 (dk_at dksX4_isBoth_1 10 rfl rfl)
theorem dX4_isBoth_37 : decode cX4_isBoth 37 = .ok (.ifCond .eq 11, 3) := dk_153 0 11 (dk_at dksX4_isBoth_1 13 rfl rfl)
theorem dX4_isBoth_40 : decode cX4_isBoth 40 = .ok (.aload_n 0, 1) := dk_42 (dk_at dksX4_isBoth_1 16 rfl rfl)
theorem dX4_isBoth_41 : decode cX4_isBoth 41 = .ok (.aload_n 1, 1) := dk_43 (dk_at dksX4_isBoth_1 17 rfl rfl)
theorem dX4_isBoth_42 : decode cX4_isBoth 42 = .ok (.invokevirtual 299, 3) := dk_182 1 43 (dk_at dksX4_isBoth_1 18 rfl rfl)
theorem dX4_isBoth_45 : decode cX4_isBoth 45 = .ok (.ifCond .ne (-35), 3) := dk_154 255 221 (dk_at dksX4_isBoth_1 21 rfl rfl)
theorem dX4_isBoth_48 : decode cX4_isBoth 48 = .ok (.iconst 0, 1) := dk_3 (dk_at dksX4_isBoth_2 0 rfl rfl)
theorem dX4_isBoth_49 : decode cX4_isBoth 49 = .ok (.ireturn, 1) := dk_172 (dk_at dksX4_isBoth_2 1 rfl rfl)
theorem dX4_isBoth_50 : decode cX4_isBoth 50 = .ok (.iconst 1, 1) := dk_4 (dk_at dksX4_isBoth_2 2 rfl rfl)
theorem dX4_isBoth_51 : decode cX4_isBoth 51 = .ok (.ireturn, 1) := dk_172 (dk_at dksX4_isBoth_2 3 rfl rfl)
abbrev cX4_isSingle : ByteArray := prog_40_method_58_code
def yX4_isSingle : MethodName := ⟨RX4, "isSingle", "(LGridTableModel$Sheet;)Z"⟩
def dkwX4_isSingle_7 : List UInt8 := [180, 1, 11, 4, 96, 181, 1, 11, 42, 43, 182, 1, 34, 172]
abbrev dktX4_isSingle_7 : List UInt8 := dkwX4_isSingle_7 ++ []
def dkwX4_isSingle_6 : List UInt8 := [180, 0, 128, 42, 180, 1, 11, 46, 16, 32, 16, 36, 184, 0, 69, 154, 0, 5, 3, 172, 42, 89]
abbrev dktX4_isSingle_6 : List UInt8 := dkwX4_isSingle_6 ++ dktX4_isSingle_7
def dkwX4_isSingle_5 : List UInt8 := [4, 16, 20, 79, 89, 5, 16, 20, 79, 182, 1, 17, 172, 42, 43, 182, 1, 34, 153, 0, 22, 43]
abbrev dktX4_isSingle_5 : List UInt8 := dkwX4_isSingle_5 ++ dktX4_isSingle_6
def dkwX4_isSingle_4 : List UInt8 := [180, 0, 128, 42, 180, 1, 11, 46, 16, 14, 160, 0, 27, 42, 43, 6, 188, 10, 89, 3, 16, 14, 79, 89]
abbrev dktX4_isSingle_4 : List UInt8 := dkwX4_isSingle_4 ++ dktX4_isSingle_5
def dkwX4_isSingle_3 : List UInt8 := [43, 182, 1, 37, 153, 0, 17, 42, 43, 16, 27, 182, 1, 50, 153, 0, 7, 4, 167, 0, 4, 3, 172, 43]
abbrev dktX4_isSingle_3 : List UInt8 := dkwX4_isSingle_3 ++ dktX4_isSingle_4
def dkwX4_isSingle_2 : List UInt8 := [180, 0, 128, 42, 180, 1, 11, 46, 16, 26, 160, 0, 37, 42, 43, 16, 26, 182, 1, 46, 153, 0, 25, 42]
abbrev dktX4_isSingle_2 : List UInt8 := dkwX4_isSingle_2 ++ dktX4_isSingle_3
def dkwX4_isSingle_1 : List UInt8 := [42, 43, 182, 1, 43, 154, 0, 5, 3, 172, 42, 89, 180, 1, 14, 4, 100, 181, 1, 14, 4, 172, 43]
abbrev dktX4_isSingle_1 : List UInt8 := dkwX4_isSingle_1 ++ dktX4_isSingle_2
def dkwX4_isSingle_0 : List UInt8 := [43, 180, 0, 128, 42, 180, 1, 11, 46, 16, 15, 160, 0, 35, 42, 43, 16, 15, 182, 1, 46, 153, 0, 11]
abbrev dktX4_isSingle_0 : List UInt8 := dkwX4_isSingle_0 ++ dktX4_isSingle_1
theorem dksX4_isSingle_0 : cX4_isSingle.data.toList.drop 0 = dktX4_isSingle_0 := by decide +kernel
theorem dksX4_isSingle_1 : cX4_isSingle.data.toList.drop 24 = dktX4_isSingle_1 := dk_seg dksX4_isSingle_0 24 rfl rfl
theorem dksX4_isSingle_2 : cX4_isSingle.data.toList.drop 47 = dktX4_isSingle_2 := dk_seg dksX4_isSingle_1 23 rfl rfl
theorem dksX4_isSingle_3 : cX4_isSingle.data.toList.drop 71 = dktX4_isSingle_3 := dk_seg dksX4_isSingle_2 24 rfl rfl
theorem dksX4_isSingle_4 : cX4_isSingle.data.toList.drop 95 = dktX4_isSingle_4 := dk_seg dksX4_isSingle_3 24 rfl rfl
theorem dksX4_isSingle_5 : cX4_isSingle.data.toList.drop 119 = dktX4_isSingle_5 := dk_seg dksX4_isSingle_4 24 rfl rfl
theorem dksX4_isSingle_6 : cX4_isSingle.data.toList.drop 141 = dktX4_isSingle_6 := dk_seg dksX4_isSingle_5 22 rfl rfl
theorem dksX4_isSingle_7 : cX4_isSingle.data.toList.drop 163 = dktX4_isSingle_7 := dk_seg dksX4_isSingle_6 22 rfl rfl
theorem dX4_isSingle_0 : decode cX4_isSingle 0 = .ok (.aload_n 1, 1) := dk_43 (dk_at dksX4_isSingle_0 0 rfl rfl)
theorem dX4_isSingle_1 : decode cX4_isSingle 1 = .ok (.getfield 128, 3) := dk_180 0 128 (dk_at dksX4_isSingle_0 1 rfl rfl)
theorem dX4_isSingle_4 : decode cX4_isSingle 4 = .ok (.aload_n 0, 1) := dk_42 (dk_at dksX4_isSingle_0 4 rfl rfl)
theorem dX4_isSingle_5 : decode cX4_isSingle 5 = .ok (.getfield 267, 3) := dk_180 1 11 (dk_at dksX4_isSingle_0 5 rfl rfl)
theorem dX4_isSingle_8 : decode cX4_isSingle 8 = .ok (.iaload, 1) := dk_46 (dk_at dksX4_isSingle_0 8 rfl rfl)
theorem dX4_isSingle_9 : decode cX4_isSingle 9 = .ok (.bipush 15, 2) := dk_16 15 (dk_at dksX4_isSingle_0 9 rfl rfl)
theorem dX4_isSingle_11 : decode cX4_isSingle 11 = .ok (.if_icmp .ne 35, 3) := dk_160 0 35 (dk_at dksX4_isSingle_0 11 rfl rfl)
theorem dX4_isSingle_14 : decode cX4_isSingle 14 = .ok (.aload_n 0, 1) := dk_42 (dk_at dksX4_isSingle_0 14 rfl rfl)
theorem dX4_isSingle_15 : decode cX4_isSingle 15 = .ok (.aload_n 1, 1) := dk_43 (dk_at dksX4_isSingle_0 15 rfl rfl)
theorem dX4_isSingle_16 : decode cX4_isSingle 16 = .ok (.bipush 15, 2) := dk_16 15 (dk_at dksX4_isSingle_0 16 rfl rfl)
theorem dX4_isSingle_18 : decode cX4_isSingle 18 = .ok (.invokevirtual 302, 3) := dk_182 1 46 (dk_at dksX4_isSingle_0 18 rfl rfl)
theorem dX4_isSingle_21 : decode cX4_isSingle 21 = .ok (.ifCond .eq 11, 3) := dk_153 0 11 (dk_at dksX4_isSingle_0 21 rfl rfl)
theorem dX4_isSingle_24 : decode cX4_isSingle 24 = .ok (.aload_n 0, 1) := dk_42 (dk_at dksX4_isSingle_1 0 rfl rfl)
theorem dX4_isSingle_25 : decode cX4_isSingle 25 = .ok (.aload_n 1, 1) := dk_43 (dk_at dksX4_isSingle_1 1 rfl rfl)
theorem dX4_isSingle_26 : decode cX4_isSingle 26 = .ok (.invokevirtual 299, 3) := dk_182 1 43 (dk_at dksX4_isSingle_1 2 rfl rfl)
theorem dX4_isSingle_29 : decode cX4_isSingle 29 = .ok (.ifCond .ne 5, 3) := dk_154 0 5 (dk_at dksX4_isSingle_1 5 rfl rfl)
theorem dX4_isSingle_32 : decode cX4_isSingle 32 = .ok (.iconst 0, 1) := dk_3 (dk_at dksX4_isSingle_1 8 rfl rfl)
theorem dX4_isSingle_33 : decode cX4_isSingle 33 = .ok (.ireturn, 1) := dk_172 (dk_at dksX4_isSingle_1 9 rfl rfl)
theorem dX4_isSingle_34 : decode cX4_isSingle 34 = .ok (.aload_n 0, 1) := dk_42 (dk_at dksX4_isSingle_1 10 rfl rfl)
theorem dX4_isSingle_35 : decode cX4_isSingle 35 = .ok (.dup, 1) := dk_89 (dk_at dksX4_isSingle_1 11 rfl rfl)
theorem dX4_isSingle_36 : decode cX4_isSingle 36 = .ok (.getfield 270, 3) := dk_180 1 14 (dk_at dksX4_isSingle_1 12 rfl rfl)
theorem dX4_isSingle_39 : decode cX4_isSingle 39 = .ok (.iconst 1, 1) := dk_4 (dk_at dksX4_isSingle_1 15 rfl rfl)
theorem dX4_isSingle_40 : decode cX4_isSingle 40 = .ok (.isub, 1) := dk_100 (dk_at dksX4_isSingle_1 16 rfl rfl)
theorem dX4_isSingle_41 : decode cX4_isSingle 41 = .ok (.putfield 270, 3) := dk_181 1 14 (dk_at dksX4_isSingle_1 17 rfl rfl)
theorem dX4_isSingle_44 : decode cX4_isSingle 44 = .ok (.iconst 1, 1) := dk_4 (dk_at dksX4_isSingle_1 20 rfl rfl)
theorem dX4_isSingle_45 : decode cX4_isSingle 45 = .ok (.ireturn, 1) := dk_172 (dk_at dksX4_isSingle_1 21 rfl rfl)
theorem dX4_isSingle_46 : decode cX4_isSingle 46 = .ok (.aload_n 1, 1) := dk_43 (dk_at dksX4_isSingle_1 22 rfl rfl)
theorem dX4_isSingle_47 : decode cX4_isSingle 47 = .ok (.getfield 128, 3) := dk_180 0 128 (dk_at dksX4_isSingle_2 0 rfl rfl)
theorem dX4_isSingle_50 : decode cX4_isSingle 50 = .ok (.aload_n 0, 1) := dk_42 (dk_at dksX4_isSingle_2 3 rfl rfl)
theorem dX4_isSingle_51 : decode cX4_isSingle 51 = .ok (.getfield 267, 3) := dk_180 1 11 (dk_at dksX4_isSingle_2 4 rfl rfl)
theorem dX4_isSingle_54 : decode cX4_isSingle 54 = .ok (.iaload, 1) := dk_46 (dk_at dksX4_isSingle_2 7 rfl rfl)
theorem dX4_isSingle_55 : decode cX4_isSingle 55 = .ok (.bipush 26, 2) := dk_16 26 (dk_at dksX4_isSingle_2 8 rfl rfl)
theorem dX4_isSingle_57 : decode cX4_isSingle 57 = .ok (.if_icmp .ne 37, 3) := dk_160 0 37 (dk_at dksX4_isSingle_2 10 rfl rfl)
theorem dX4_isSingle_60 : decode cX4_isSingle 60 = .ok (.aload_n 0, 1) := dk_42 (dk_at dksX4_isSingle_2 13 rfl rfl)
theorem dX4_isSingle_61 : decode cX4_isSingle 61 = .ok (.aload_n 1, 1) := dk_43 (dk_at dksX4_isSingle_2 14 rfl rfl)
theorem dX4_isSingle_62 : decode cX4_isSingle 62 = .ok (.bipush 26, 2) := dk_16 26 (dk_at dksX4_isSingle_2 15 rfl rfl)
theorem dX4_isSingle_64 : decode cX4_isSingle 64 = .ok (.invokevirtual 302, 3) := dk_182 1 46 (dk_at dksX4_isSingle_2 17 rfl rfl)
theorem dX4_isSingle_67 : decode cX4_isSingle 67 = .ok (.ifCond .eq 25, 3) := dk_153 0 25 (dk_at dksX4_isSingle_2 20 rfl rfl)
theorem dX4_isSingle_70 : decode cX4_isSingle 70 = .ok (.aload_n 0, 1) := dk_42 (dk_at dksX4_isSingle_2 23 rfl rfl)
theorem dX4_isSingle_71 : decode cX4_isSingle 71 = .ok (.aload_n 1, 1) := dk_43 (dk_at dksX4_isSingle_3 0 rfl rfl)
theorem dX4_isSingle_72 : decode cX4_isSingle 72 = .ok (.invokevirtual 293, 3) := dk_182 1 37 (dk_at dksX4_isSingle_3 1 rfl rfl)
theorem dX4_isSingle_75 : decode cX4_isSingle 75 = .ok (.ifCond .eq 17, 3) := dk_153 0 17 (dk_at dksX4_isSingle_3 4 rfl rfl)
theorem dX4_isSingle_78 : decode cX4_isSingle 78 = .ok (.aload_n 0, 1) := dk_42 (dk_at dksX4_isSingle_3 7 rfl rfl)
theorem dX4_isSingle_79 : decode cX4_isSingle 79 = .ok (.aload_n 1, 1) := dk_43 (dk_at dksX4_isSingle_3 8 rfl rfl)
theorem dX4_isSingle_80 : decode cX4_isSingle 80 = .ok (.bipush 27, 2) := dk_16 27 (dk_at dksX4_isSingle_3 9 rfl rfl)
theorem dX4_isSingle_82 : decode cX4_isSingle 82 = .ok (.invokevirtual 306, 3) := dk_182 1 50 (dk_at dksX4_isSingle_3 11 rfl rfl)
theorem dX4_isSingle_85 : decode cX4_isSingle 85 = .ok (.ifCond .eq 7, 3) := dk_153 0 7 (dk_at dksX4_isSingle_3 14 rfl rfl)
theorem dX4_isSingle_88 : decode cX4_isSingle 88 = .ok (.iconst 1, 1) := dk_4 (dk_at dksX4_isSingle_3 17 rfl rfl)
theorem dX4_isSingle_89 : decode cX4_isSingle 89 = .ok (.goto 4, 3) := dk_167 0 4 (dk_at dksX4_isSingle_3 18 rfl rfl)
theorem dX4_isSingle_92 : decode cX4_isSingle 92 = .ok (.iconst 0, 1) := dk_3 (dk_at dksX4_isSingle_3 21 rfl rfl)
theorem dX4_isSingle_93 : decode cX4_isSingle 93 = .ok (.ireturn, 1) := dk_172 (dk_at dksX4_isSingle_3 22 rfl rfl)
theorem dX4_isSingle_94 : decode cX4_isSingle 94 = .ok (.aload_n 1, 1) := dk_43 (dk_at dksX4_isSingle_3 23 rfl rfl)
theorem dX4_isSingle_95 : decode cX4_isSingle 95 = .ok (.getfield 128, 3) := dk_180 0 128 (dk_at dksX4_isSingle_4 0 rfl rfl)
theorem dX4_isSingle_98 : decode cX4_isSingle 98 = .ok (.aload_n 0, 1) := dk_42 (dk_at dksX4_isSingle_4 3 rfl rfl)
theorem dX4_isSingle_99 : decode cX4_isSingle 99 = .ok (.getfield 267, 3) := dk_180 1 11 (dk_at dksX4_isSingle_4 4 rfl rfl)
theorem dX4_isSingle_102 : decode cX4_isSingle 102 = .ok (.iaload, 1) := dk_46 (dk_at dksX4_isSingle_4 7 rfl rfl)
theorem dX4_isSingle_103 : decode cX4_isSingle 103 = .ok (.bipush 14, 2) := dk_16 14 (dk_at dksX4_isSingle_4 8 rfl rfl)
theorem dX4_isSingle_105 : decode cX4_isSingle 105 = .ok (.if_icmp .ne 27, 3) := dk_160 0 27 (dk_at dksX4_isSingle_4 10 rfl rfl)
theorem dX4_isSingle_108 : decode cX4_isSingle 108 = .ok (.aload_n 0, 1) := dk_42 (dk_at dksX4_isSingle_4 13 rfl rfl)
theorem dX4_isSingle_109 : decode cX4_isSingle 109 = .ok (.aload_n 1, 1) := dk_43 (dk_at dksX4_isSingle_4 14 rfl rfl)
theorem dX4_isSingle_110 : decode cX4_isSingle 110 = .ok (.iconst 3, 1) := dk_6 (dk_at dksX4_isSingle_4 15 rfl rfl)
theorem dX4_isSingle_111 : decode cX4_isSingle 111 = .ok (.newarray .int, 2) := dk_188_10 (dk_at dksX4_isSingle_4 16 rfl rfl)
theorem dX4_isSingle_113 : decode cX4_isSingle 113 = .ok (.dup, 1) := dk_89 (dk_at dksX4_isSingle_4 18 rfl rfl)
theorem dX4_isSingle_114 : decode cX4_isSingle 114 = .ok (.iconst 0, 1) := dk_3 (dk_at dksX4_isSingle_4 19 rfl rfl)
theorem dX4_isSingle_115 : decode cX4_isSingle 115 = .ok (.bipush 14, 2) := dk_16 14 (dk_at dksX4_isSingle_4 20 rfl rfl)
theorem dX4_isSingle_117 : decode cX4_isSingle 117 = .ok (.iastore, 1) := dk_79 (dk_at dksX4_isSingle_4 22 rfl rfl)
theorem dX4_isSingle_118 : decode cX4_isSingle 118 = .ok (.dup, 1) := dk_89 (dk_at dksX4_isSingle_4 23 rfl rfl)
theorem dX4_isSingle_119 : decode cX4_isSingle 119 = .ok (.iconst 1, 1) := dk_4 (dk_at dksX4_isSingle_5 0 rfl rfl)
theorem dX4_isSingle_120 : decode cX4_isSingle 120 = .ok (.bipush 20, 2) := dk_16 20 (dk_at dksX4_isSingle_5 1 rfl rfl)
theorem dX4_isSingle_122 : decode cX4_isSingle 122 = .ok (.iastore, 1) := dk_79 (dk_at dksX4_isSingle_5 3 rfl rfl)
theorem dX4_isSingle_123 : decode cX4_isSingle 123 = .ok (.dup, 1) := dk_89 (dk_at dksX4_isSingle_5 4 rfl rfl)
theorem dX4_isSingle_124 : decode cX4_isSingle 124 = .ok (.iconst 2, 1) := dk_5 (dk_at dksX4_isSingle_5 5 rfl rfl)
theorem dX4_isSingle_125 : decode cX4_isSingle 125 = .ok (.bipush 20, 2) := dk_16 20 (dk_at dksX4_isSingle_5 6 rfl rfl)
theorem dX4_isSingle_127 : decode cX4_isSingle 127 = .ok (.iastore, 1) := dk_79 (dk_at dksX4_isSingle_5 8 rfl rfl)
theorem dX4_isSingle_128 : decode cX4_isSingle 128 = .ok (.invokevirtual 273, 3) := dk_182 1 17 (dk_at dksX4_isSingle_5 9 rfl rfl)
theorem dX4_isSingle_131 : decode cX4_isSingle 131 = .ok (.ireturn, 1) := dk_172 (dk_at dksX4_isSingle_5 12 rfl rfl)
theorem dX4_isSingle_132 : decode cX4_isSingle 132 = .ok (.aload_n 0, 1) := dk_42 (dk_at dksX4_isSingle_5 13 rfl rfl)
theorem dX4_isSingle_133 : decode cX4_isSingle 133 = .ok (.aload_n 1, 1) := dk_43 (dk_at dksX4_isSingle_5 14 rfl rfl)
theorem dX4_isSingle_134 : decode cX4_isSingle 134 = .ok (.invokevirtual 290, 3) := dk_182 1 34 (dk_at dksX4_isSingle_5 15 rfl rfl)
theorem dX4_isSingle_137 : decode cX4_isSingle 137 = .ok (.ifCond .eq 22, 3) := dk_153 0 22 (dk_at dksX4_isSingle_5 18 rfl rfl)
theorem dX4_isSingle_140 : decode cX4_isSingle 140 = .ok (.aload_n 1, 1) := dk_43 (dk_at dksX4_isSingle_5 21 rfl rfl)
theorem dX4_isSingle_141 : decode cX4_isSingle 141 = .ok (.getfield 128, 3) := dk_180 0 128 (dk_at dksX4_isSingle_6 0 rfl rfl)
theorem dX4_isSingle_144 : decode cX4_isSingle 144 = .ok (.aload_n 0, 1) := dk_42 (dk_at dksX4_isSingle_6 3 rfl rfl)
theorem dX4_isSingle_145 : decode cX4_isSingle 145 = .ok (.getfield 267, 3) := dk_180 1 11 (dk_at dksX4_isSingle_6 4 rfl rfl)
theorem dX4_isSingle_148 : decode cX4_isSingle 148 = .ok (.iaload, 1) := dk_46 (dk_at dksX4_isSingle_6 7 rfl rfl)
theorem dX4_isSingle_149 : decode cX4_isSingle 149 = .ok (.bipush 32, 2) := dk_16 32 (dk_at dksX4_isSingle_6 8 rfl rfl)
theorem dX4_isSingle_151 : decode cX4_isSingle 151 = .ok (.bipush 36, 2) := dk_16 36 (dk_at dksX4_isSingle_6 10 rfl rfl)
theorem dX4_isSingle_153 : decode cX4_isSingle 153 = .ok (.invokestatic 69, 3) := dk_184 0 69 (dk_at dksX4_isSingle_6 12 rfl rfl)
theorem dX4_isSingle_156 : decode cX4_isSingle 156 = .ok (.ifCond .ne 5, 3) := dk_154 0 5 (dk_at dksX4_isSingle_6 15 rfl rfl)
theorem dX4_isSingle_159 : decode cX4_isSingle 159 = .ok (.iconst 0, 1) := dk_3 (dk_at dksX4_isSingle_6 18 rfl rfl)
theorem dX4_isSingle_160 : decode cX4_isSingle 160 = .ok (.ireturn, 1) := dk_172 (dk_at dksX4_isSingle_6 19 rfl rfl)
theorem dX4_isSingle_161 : decode cX4_isSingle 161 = .ok (.aload_n 0, 1) := dk_42 (dk_at dksX4_isSingle_6 20 rfl rfl)
theorem dX4_isSingle_162 : decode cX4_isSingle 162 = .ok (.dup, 1) := dk_89 (dk_at dksX4_isSingle_6 21 rfl rfl)
theorem dX4_isSingle_163 : decode cX4_isSingle 163 = .ok (.getfield 267, 3) := dk_180 1 11 (dk_at dksX4_isSingle_7 0 rfl rfl)
theorem dX4_isSingle_166 : decode cX4_isSingle 166 = .ok (.iconst 1, 1) := dk_4 (dk_at dksX4_isSingle_7 3 rfl rfl)
theorem dX4_isSingle_167 : decode cX4_isSingle 167 = .ok (.iadd, 1) := dk_96 (dk_at dksX4_isSingle_7 4 rfl rfl)
theorem dX4_isSingle_168 : decode cX4_isSingle 168 = .ok (.putfield 267, 3) := dk_181 1 11 (dk_at dksX4_isSingle_7 5 rfl rfl)
theorem dX4_isSingle_171 : decode cX4_isSingle 171 = .ok (.aload_n 0, 1) := dk_42 (dk_at dksX4_isSingle_7 8 rfl rfl)
theorem dX4_isSingle_172 : decode cX4_isSingle 172 = .ok (.aload_n 1, 1) := dk_43 (dk_at dksX4_isSingle_7 9 rfl rfl)
theorem dX4_isSingle_173 : decode cX4_isSingle 173 = .ok (.invokevirtual 290, 3) := dk_182 1 34 (dk_at dksX4_isSingle_7 10 rfl rfl)
theorem dX4_isSingle_176 : decode cX4_isSingle 176 = .ok (.ireturn, 1) := dk_172 (dk_at dksX4_isSingle_7 13 rfl rfl)
abbrev cX4_errorOf : ByteArray := prog_40_method_70_code
def yX4_errorOf : MethodName := ⟨RX4, "errorOf", "(LGridTableModel$Sheet;ILGridTableModel$Places;)I"⟩
def dkwX4_errorOf_5 : List UInt8 := [172, 3, 172]
abbrev dktX4_errorOf_5 : List UInt8 := dkwX4_errorOf_5 ++ []
def dkwX4_errorOf_4 : List UInt8 := [180, 0, 76, 4, 96, 181, 0, 76, 3, 172, 42, 43, 45, 182, 1, 107, 43, 28, 4, 96, 181, 1, 94, 3]
abbrev dktX4_errorOf_4 : List UInt8 := dkwX4_errorOf_4 ++ dktX4_errorOf_5
def dkwX4_errorOf_3 : List UInt8 := [180, 0, 76, 16, 20, 160, 0, 5, 7, 172, 43, 180, 0, 173, 43, 180, 0, 76, 28, 79, 43, 89]
abbrev dktX4_errorOf_3 : List UInt8 := dkwX4_errorOf_3 ++ dktX4_errorOf_4
def dkwX4_errorOf_2 : List UInt8 := [42, 43, 28, 182, 1, 101, 172, 43, 180, 0, 134, 28, 42, 43, 28, 182, 1, 104, 79, 3, 172, 43]
abbrev dktX4_errorOf_2 : List UInt8 := dkwX4_errorOf_2 ++ dktX4_errorOf_3
def dkwX4_errorOf_1 : List UInt8 := [170, 0, 0, 0, 0, 163, 0, 0, 0, 4, 0, 0, 0, 23, 0, 0, 0, 115, 0, 0, 0, 163, 0, 0, 0, 115, 0, 0, 0, 163, 0, 0, 0, 115, 0, 0, 0, 163, 0, 0, 0, 163, 0, 0, 0, 163, 0, 0, 0, 163, 0, 0, 0, 163, 0, 0, 0, 163, 0, 0, 0, 163, 0, 0, 0, 163, 0, 0, 0, 163, 0, 0, 0, 163, 0, 0, 0, 163, 0, 0, 0, 94, 0, 0, 0, 101, 0, 0, 0, 163, 0, 0, 0, 148]
abbrev dktX4_errorOf_1 : List UInt8 := dkwX4_errorOf_1 ++ dktX4_errorOf_2
def dkwX4_errorOf_0 : List UInt8 := [43, 180, 0, 128, 28, 46]
abbrev dktX4_errorOf_0 : List UInt8 := dkwX4_errorOf_0 ++ dktX4_errorOf_1
theorem dksX4_errorOf_0 : cX4_errorOf.data.toList.drop 0 = dktX4_errorOf_0 := by decide +kernel
theorem dksX4_errorOf_1 : cX4_errorOf.data.toList.drop 6 = dktX4_errorOf_1 := dk_seg dksX4_errorOf_0 6 rfl rfl
theorem dksX4_errorOf_2 : cX4_errorOf.data.toList.drop 100 = dktX4_errorOf_2 := dk_seg dksX4_errorOf_1 94 rfl rfl
theorem dksX4_errorOf_3 : cX4_errorOf.data.toList.drop 122 = dktX4_errorOf_3 := dk_seg dksX4_errorOf_2 22 rfl rfl
theorem dksX4_errorOf_4 : cX4_errorOf.data.toList.drop 144 = dktX4_errorOf_4 := dk_seg dksX4_errorOf_3 22 rfl rfl
theorem dksX4_errorOf_5 : cX4_errorOf.data.toList.drop 168 = dktX4_errorOf_5 := dk_seg dksX4_errorOf_4 24 rfl rfl
theorem dX4_errorOf_0 : decode cX4_errorOf 0 = .ok (.aload_n 1, 1) := dk_43 (dk_at dksX4_errorOf_0 0 rfl rfl)
theorem dX4_errorOf_1 : decode cX4_errorOf 1 = .ok (.getfield 128, 3) := dk_180 0 128 (dk_at dksX4_errorOf_0 1 rfl rfl)
theorem dX4_errorOf_4 : decode cX4_errorOf 4 = .ok (.iload_n 2, 1) := dk_28 (dk_at dksX4_errorOf_0 4 rfl rfl)
theorem dX4_errorOf_5 : decode cX4_errorOf 5 = .ok (.iaload, 1) := dk_46 (dk_at dksX4_errorOf_0 5 rfl rfl)
theorem dX4_errorOf_6 : decode cX4_errorOf 6 = .ok (.tableswitch 163 4 23 #[115, 163, 115, 163, 115, 163, 163, 163, 163, 163, 163, 163, 163, 163, 163, 163, 94, 101, 163, 148], 94) := by decide +kernel
theorem dX4_errorOf_100 : decode cX4_errorOf 100 = .ok (.aload_n 0, 1) := dk_42 (dk_at dksX4_errorOf_2 0 rfl rfl)
theorem dX4_errorOf_101 : decode cX4_errorOf 101 = .ok (.aload_n 1, 1) := dk_43 (dk_at dksX4_errorOf_2 1 rfl rfl)
theorem dX4_errorOf_102 : decode cX4_errorOf 102 = .ok (.iload_n 2, 1) := dk_28 (dk_at dksX4_errorOf_2 2 rfl rfl)
theorem dX4_errorOf_103 : decode cX4_errorOf 103 = .ok (.invokevirtual 357, 3) := dk_182 1 101 (dk_at dksX4_errorOf_2 3 rfl rfl)
theorem dX4_errorOf_106 : decode cX4_errorOf 106 = .ok (.ireturn, 1) := dk_172 (dk_at dksX4_errorOf_2 6 rfl rfl)
theorem dX4_errorOf_107 : decode cX4_errorOf 107 = .ok (.aload_n 1, 1) := dk_43 (dk_at dksX4_errorOf_2 7 rfl rfl)
theorem dX4_errorOf_108 : decode cX4_errorOf 108 = .ok (.getfield 134, 3) := dk_180 0 134 (dk_at dksX4_errorOf_2 8 rfl rfl)
theorem dX4_errorOf_111 : decode cX4_errorOf 111 = .ok (.iload_n 2, 1) := dk_28 (dk_at dksX4_errorOf_2 11 rfl rfl)
theorem dX4_errorOf_112 : decode cX4_errorOf 112 = .ok (.aload_n 0, 1) := dk_42 (dk_at dksX4_errorOf_2 12 rfl rfl)
theorem dX4_errorOf_113 : decode cX4_errorOf 113 = .ok (.aload_n 1, 1) := dk_43 (dk_at dksX4_errorOf_2 13 rfl rfl)
theorem dX4_errorOf_114 : decode cX4_errorOf 114 = .ok (.iload_n 2, 1) := dk_28 (dk_at dksX4_errorOf_2 14 rfl rfl)
theorem dX4_errorOf_115 : decode cX4_errorOf 115 = .ok (.invokevirtual 360, 3) := dk_182 1 104 (dk_at dksX4_errorOf_2 15 rfl rfl)
theorem dX4_errorOf_118 : decode cX4_errorOf 118 = .ok (.iastore, 1) := dk_79 (dk_at dksX4_errorOf_2 18 rfl rfl)
theorem dX4_errorOf_119 : decode cX4_errorOf 119 = .ok (.iconst 0, 1) := dk_3 (dk_at dksX4_errorOf_2 19 rfl rfl)
theorem dX4_errorOf_120 : decode cX4_errorOf 120 = .ok (.ireturn, 1) := dk_172 (dk_at dksX4_errorOf_2 20 rfl rfl)
theorem dX4_errorOf_121 : decode cX4_errorOf 121 = .ok (.aload_n 1, 1) := dk_43 (dk_at dksX4_errorOf_2 21 rfl rfl)
theorem dX4_errorOf_122 : decode cX4_errorOf 122 = .ok (.getfield 76, 3) := dk_180 0 76 (dk_at dksX4_errorOf_3 0 rfl rfl)
theorem dX4_errorOf_125 : decode cX4_errorOf 125 = .ok (.bipush 20, 2) := dk_16 20 (dk_at dksX4_errorOf_3 3 rfl rfl)
theorem dX4_errorOf_127 : decode cX4_errorOf 127 = .ok (.if_icmp .ne 5, 3) := dk_160 0 5 (dk_at dksX4_errorOf_3 5 rfl rfl)
theorem dX4_errorOf_130 : decode cX4_errorOf 130 = .ok (.iconst 4, 1) := dk_7 (dk_at dksX4_errorOf_3 8 rfl rfl)
theorem dX4_errorOf_131 : decode cX4_errorOf 131 = .ok (.ireturn, 1) := dk_172 (dk_at dksX4_errorOf_3 9 rfl rfl)
theorem dX4_errorOf_132 : decode cX4_errorOf 132 = .ok (.aload_n 1, 1) := dk_43 (dk_at dksX4_errorOf_3 10 rfl rfl)
theorem dX4_errorOf_133 : decode cX4_errorOf 133 = .ok (.getfield 173, 3) := dk_180 0 173 (dk_at dksX4_errorOf_3 11 rfl rfl)
theorem dX4_errorOf_136 : decode cX4_errorOf 136 = .ok (.aload_n 1, 1) := dk_43 (dk_at dksX4_errorOf_3 14 rfl rfl)
theorem dX4_errorOf_137 : decode cX4_errorOf 137 = .ok (.getfield 76, 3) := dk_180 0 76 (dk_at dksX4_errorOf_3 15 rfl rfl)
theorem dX4_errorOf_140 : decode cX4_errorOf 140 = .ok (.iload_n 2, 1) := dk_28 (dk_at dksX4_errorOf_3 18 rfl rfl)
theorem dX4_errorOf_141 : decode cX4_errorOf 141 = .ok (.iastore, 1) := dk_79 (dk_at dksX4_errorOf_3 19 rfl rfl)
theorem dX4_errorOf_142 : decode cX4_errorOf 142 = .ok (.aload_n 1, 1) := dk_43 (dk_at dksX4_errorOf_3 20 rfl rfl)
theorem dX4_errorOf_143 : decode cX4_errorOf 143 = .ok (.dup, 1) := dk_89 (dk_at dksX4_errorOf_3 21 rfl rfl)
theorem dX4_errorOf_144 : decode cX4_errorOf 144 = .ok (.getfield 76, 3) := dk_180 0 76 (dk_at dksX4_errorOf_4 0 rfl rfl)
theorem dX4_errorOf_147 : decode cX4_errorOf 147 = .ok (.iconst 1, 1) := dk_4 (dk_at dksX4_errorOf_4 3 rfl rfl)
theorem dX4_errorOf_148 : decode cX4_errorOf 148 = .ok (.iadd, 1) := dk_96 (dk_at dksX4_errorOf_4 4 rfl rfl)
theorem dX4_errorOf_149 : decode cX4_errorOf 149 = .ok (.putfield 76, 3) := dk_181 0 76 (dk_at dksX4_errorOf_4 5 rfl rfl)
theorem dX4_errorOf_152 : decode cX4_errorOf 152 = .ok (.iconst 0, 1) := dk_3 (dk_at dksX4_errorOf_4 8 rfl rfl)
theorem dX4_errorOf_153 : decode cX4_errorOf 153 = .ok (.ireturn, 1) := dk_172 (dk_at dksX4_errorOf_4 9 rfl rfl)
theorem dX4_errorOf_154 : decode cX4_errorOf 154 = .ok (.aload_n 0, 1) := dk_42 (dk_at dksX4_errorOf_4 10 rfl rfl)
theorem dX4_errorOf_155 : decode cX4_errorOf 155 = .ok (.aload_n 1, 1) := dk_43 (dk_at dksX4_errorOf_4 11 rfl rfl)
theorem dX4_errorOf_156 : decode cX4_errorOf 156 = .ok (.aload_n 3, 1) := dk_45 (dk_at dksX4_errorOf_4 12 rfl rfl)
theorem dX4_errorOf_157 : decode cX4_errorOf 157 = .ok (.invokevirtual 363, 3) := dk_182 1 107 (dk_at dksX4_errorOf_4 13 rfl rfl)
theorem dX4_errorOf_160 : decode cX4_errorOf 160 = .ok (.aload_n 1, 1) := dk_43 (dk_at dksX4_errorOf_4 16 rfl rfl)
theorem dX4_errorOf_161 : decode cX4_errorOf 161 = .ok (.iload_n 2, 1) := dk_28 (dk_at dksX4_errorOf_4 17 rfl rfl)
theorem dX4_errorOf_162 : decode cX4_errorOf 162 = .ok (.iconst 1, 1) := dk_4 (dk_at dksX4_errorOf_4 18 rfl rfl)
theorem dX4_errorOf_163 : decode cX4_errorOf 163 = .ok (.iadd, 1) := dk_96 (dk_at dksX4_errorOf_4 19 rfl rfl)
theorem dX4_errorOf_164 : decode cX4_errorOf 164 = .ok (.putfield 350, 3) := dk_181 1 94 (dk_at dksX4_errorOf_4 20 rfl rfl)
theorem dX4_errorOf_167 : decode cX4_errorOf 167 = .ok (.iconst 0, 1) := dk_3 (dk_at dksX4_errorOf_4 23 rfl rfl)
theorem dX4_errorOf_168 : decode cX4_errorOf 168 = .ok (.ireturn, 1) := dk_172 (dk_at dksX4_errorOf_5 0 rfl rfl)
theorem dX4_errorOf_169 : decode cX4_errorOf 169 = .ok (.iconst 0, 1) := dk_3 (dk_at dksX4_errorOf_5 1 rfl rfl)
theorem dX4_errorOf_170 : decode cX4_errorOf 170 = .ok (.ireturn, 1) := dk_172 (dk_at dksX4_errorOf_5 2 rfl rfl)
abbrev cX4_errorOfName : ByteArray := prog_40_method_67_code
def yX4_errorOfName : MethodName := ⟨RX4, "errorOfName", "(LGridTableModel$Sheet;I)I"⟩
def dkwX4_errorOfName_6 : List UInt8 := [172]
abbrev dktX4_errorOfName_6 : List UInt8 := dkwX4_errorOfName_6 ++ []
def dkwX4_errorOfName_5 : List UInt8 := [43, 180, 1, 94, 46, 5, 160, 0, 17, 42, 43, 43, 180, 0, 134, 28, 46, 182, 1, 97, 167, 0, 4, 3]
abbrev dktX4_errorOfName_5 : List UInt8 := dkwX4_errorOfName_5 ++ dktX4_errorOfName_6
def dkwX4_errorOfName_4 : List UInt8 := [180, 0, 66, 45, 184, 1, 74, 79, 43, 180, 0, 134, 28, 46, 2, 160, 0, 5, 6, 172, 43, 180, 0, 128]
abbrev dktX4_errorOfName_4 : List UInt8 := dkwX4_errorOfName_4 ++ dktX4_errorOfName_5
def dkwX4_errorOfName_3 : List UInt8 := [153, 0, 18, 43, 180, 1, 88, 43, 180, 0, 73, 45, 184, 1, 74, 167, 0, 15, 43, 180, 1, 82, 43]
abbrev dktX4_errorOfName_3 : List UInt8 := dkwX4_errorOfName_3 ++ dktX4_errorOfName_4
def dkwX4_errorOfName_2 : List UInt8 := [180, 0, 73, 45, 184, 1, 85, 172, 43, 28, 184, 1, 91, 54, 5, 43, 180, 0, 134, 28, 21, 5]
abbrev dktX4_errorOfName_2 : List UInt8 := dkwX4_errorOfName_2 ++ dktX4_errorOfName_3
def dkwX4_errorOfName_1 : List UInt8 := [180, 1, 82, 43, 180, 0, 66, 45, 184, 1, 85, 172, 21, 4, 5, 160, 0, 16, 43, 180, 1, 88, 43]
abbrev dktX4_errorOfName_1 : List UInt8 := dkwX4_errorOfName_1 ++ dktX4_errorOfName_2
def dkwX4_errorOfName_0 : List UInt8 := [42, 43, 28, 182, 1, 78, 78, 43, 180, 0, 128, 28, 4, 100, 46, 54, 4, 21, 4, 154, 0, 16, 43]
abbrev dktX4_errorOfName_0 : List UInt8 := dkwX4_errorOfName_0 ++ dktX4_errorOfName_1
theorem dksX4_errorOfName_0 : cX4_errorOfName.data.toList.drop 0 = dktX4_errorOfName_0 := by decide +kernel
theorem dksX4_errorOfName_1 : cX4_errorOfName.data.toList.drop 23 = dktX4_errorOfName_1 := dk_seg dksX4_errorOfName_0 23 rfl rfl
theorem dksX4_errorOfName_2 : cX4_errorOfName.data.toList.drop 46 = dktX4_errorOfName_2 := dk_seg dksX4_errorOfName_1 23 rfl rfl
theorem dksX4_errorOfName_3 : cX4_errorOfName.data.toList.drop 68 = dktX4_errorOfName_3 := dk_seg dksX4_errorOfName_2 22 rfl rfl
theorem dksX4_errorOfName_4 : cX4_errorOfName.data.toList.drop 91 = dktX4_errorOfName_4 := dk_seg dksX4_errorOfName_3 23 rfl rfl
theorem dksX4_errorOfName_5 : cX4_errorOfName.data.toList.drop 115 = dktX4_errorOfName_5 := dk_seg dksX4_errorOfName_4 24 rfl rfl
theorem dksX4_errorOfName_6 : cX4_errorOfName.data.toList.drop 139 = dktX4_errorOfName_6 := dk_seg dksX4_errorOfName_5 24 rfl rfl
theorem dX4_errorOfName_0 : decode cX4_errorOfName 0 = .ok (.aload_n 0, 1) := dk_42 (dk_at dksX4_errorOfName_0 0 rfl rfl)
theorem dX4_errorOfName_1 : decode cX4_errorOfName 1 = .ok (.aload_n 1, 1) := dk_43 (dk_at dksX4_errorOfName_0 1 rfl rfl)
theorem dX4_errorOfName_2 : decode cX4_errorOfName 2 = .ok (.iload_n 2, 1) := dk_28 (dk_at dksX4_errorOfName_0 2 rfl rfl)
theorem dX4_errorOfName_3 : decode cX4_errorOfName 3 = .ok (.invokevirtual 334, 3) := dk_182 1 78 (dk_at dksX4_errorOfName_0 3 rfl rfl)
theorem dX4_errorOfName_6 : decode cX4_errorOfName 6 = .ok (.astore_n 3, 1) := dk_78 (dk_at dksX4_errorOfName_0 6 rfl rfl)
theorem dX4_errorOfName_7 : decode cX4_errorOfName 7 = .ok (.aload_n 1, 1) := dk_43 (dk_at dksX4_errorOfName_0 7 rfl rfl)
theorem dX4_errorOfName_8 : decode cX4_errorOfName 8 = .ok (.getfield 128, 3) := dk_180 0 128 (dk_at dksX4_errorOfName_0 8 rfl rfl)
theorem dX4_errorOfName_11 : decode cX4_errorOfName 11 = .ok (.iload_n 2, 1) := dk_28 (dk_at dksX4_errorOfName_0 11 rfl rfl)
theorem dX4_errorOfName_12 : decode cX4_errorOfName 12 = .ok (.iconst 1, 1) := dk_4 (dk_at dksX4_errorOfName_0 12 rfl rfl)
theorem dX4_errorOfName_13 : decode cX4_errorOfName 13 = .ok (.isub, 1) := dk_100 (dk_at dksX4_errorOfName_0 13 rfl rfl)
theorem dX4_errorOfName_14 : decode cX4_errorOfName 14 = .ok (.iaload, 1) := dk_46 (dk_at dksX4_errorOfName_0 14 rfl rfl)
theorem dX4_errorOfName_15 : decode cX4_errorOfName 15 = .ok (.istore 4, 2) := dk_54 4 (dk_at dksX4_errorOfName_0 15 rfl rfl)
theorem dX4_errorOfName_17 : decode cX4_errorOfName 17 = .ok (.iload 4, 2) := dk_21 4 (dk_at dksX4_errorOfName_0 17 rfl rfl)
theorem dX4_errorOfName_19 : decode cX4_errorOfName 19 = .ok (.ifCond .ne 16, 3) := dk_154 0 16 (dk_at dksX4_errorOfName_0 19 rfl rfl)
theorem dX4_errorOfName_22 : decode cX4_errorOfName 22 = .ok (.aload_n 1, 1) := dk_43 (dk_at dksX4_errorOfName_0 22 rfl rfl)
theorem dX4_errorOfName_23 : decode cX4_errorOfName 23 = .ok (.getfield 338, 3) := dk_180 1 82 (dk_at dksX4_errorOfName_1 0 rfl rfl)
theorem dX4_errorOfName_26 : decode cX4_errorOfName 26 = .ok (.aload_n 1, 1) := dk_43 (dk_at dksX4_errorOfName_1 3 rfl rfl)
theorem dX4_errorOfName_27 : decode cX4_errorOfName 27 = .ok (.getfield 66, 3) := dk_180 0 66 (dk_at dksX4_errorOfName_1 4 rfl rfl)
theorem dX4_errorOfName_30 : decode cX4_errorOfName 30 = .ok (.aload_n 3, 1) := dk_45 (dk_at dksX4_errorOfName_1 7 rfl rfl)
theorem dX4_errorOfName_31 : decode cX4_errorOfName 31 = .ok (.invokestatic 341, 3) := dk_184 1 85 (dk_at dksX4_errorOfName_1 8 rfl rfl)
theorem dX4_errorOfName_34 : decode cX4_errorOfName 34 = .ok (.ireturn, 1) := dk_172 (dk_at dksX4_errorOfName_1 11 rfl rfl)
theorem dX4_errorOfName_35 : decode cX4_errorOfName 35 = .ok (.iload 4, 2) := dk_21 4 (dk_at dksX4_errorOfName_1 12 rfl rfl)
theorem dX4_errorOfName_37 : decode cX4_errorOfName 37 = .ok (.iconst 2, 1) := dk_5 (dk_at dksX4_errorOfName_1 14 rfl rfl)
theorem dX4_errorOfName_38 : decode cX4_errorOfName 38 = .ok (.if_icmp .ne 16, 3) := dk_160 0 16 (dk_at dksX4_errorOfName_1 15 rfl rfl)
theorem dX4_errorOfName_41 : decode cX4_errorOfName 41 = .ok (.aload_n 1, 1) := dk_43 (dk_at dksX4_errorOfName_1 18 rfl rfl)
theorem dX4_errorOfName_42 : decode cX4_errorOfName 42 = .ok (.getfield 344, 3) := dk_180 1 88 (dk_at dksX4_errorOfName_1 19 rfl rfl)
theorem dX4_errorOfName_45 : decode cX4_errorOfName 45 = .ok (.aload_n 1, 1) := dk_43 (dk_at dksX4_errorOfName_1 22 rfl rfl)
theorem dX4_errorOfName_46 : decode cX4_errorOfName 46 = .ok (.getfield 73, 3) := dk_180 0 73 (dk_at dksX4_errorOfName_2 0 rfl rfl)
theorem dX4_errorOfName_49 : decode cX4_errorOfName 49 = .ok (.aload_n 3, 1) := dk_45 (dk_at dksX4_errorOfName_2 3 rfl rfl)
theorem dX4_errorOfName_50 : decode cX4_errorOfName 50 = .ok (.invokestatic 341, 3) := dk_184 1 85 (dk_at dksX4_errorOfName_2 4 rfl rfl)
theorem dX4_errorOfName_53 : decode cX4_errorOfName 53 = .ok (.ireturn, 1) := dk_172 (dk_at dksX4_errorOfName_2 7 rfl rfl)
theorem dX4_errorOfName_54 : decode cX4_errorOfName 54 = .ok (.aload_n 1, 1) := dk_43 (dk_at dksX4_errorOfName_2 8 rfl rfl)
theorem dX4_errorOfName_55 : decode cX4_errorOfName 55 = .ok (.iload_n 2, 1) := dk_28 (dk_at dksX4_errorOfName_2 9 rfl rfl)
theorem dX4_errorOfName_56 : decode cX4_errorOfName 56 = .ok (.invokestatic 347, 3) := dk_184 1 91 (dk_at dksX4_errorOfName_2 10 rfl rfl)
theorem dX4_errorOfName_59 : decode cX4_errorOfName 59 = .ok (.istore 5, 2) := dk_54 5 (dk_at dksX4_errorOfName_2 13 rfl rfl)
theorem dX4_errorOfName_61 : decode cX4_errorOfName 61 = .ok (.aload_n 1, 1) := dk_43 (dk_at dksX4_errorOfName_2 15 rfl rfl)
theorem dX4_errorOfName_62 : decode cX4_errorOfName 62 = .ok (.getfield 134, 3) := dk_180 0 134 (dk_at dksX4_errorOfName_2 16 rfl rfl)
theorem dX4_errorOfName_65 : decode cX4_errorOfName 65 = .ok (.iload_n 2, 1) := dk_28 (dk_at dksX4_errorOfName_2 19 rfl rfl)
theorem dX4_errorOfName_66 : decode cX4_errorOfName 66 = .ok (.iload 5, 2) := dk_21 5 (dk_at dksX4_errorOfName_2 20 rfl rfl)
theorem dX4_errorOfName_68 : decode cX4_errorOfName 68 = .ok (.ifCond .eq 18, 3) := dk_153 0 18 (dk_at dksX4_errorOfName_3 0 rfl rfl)
theorem dX4_errorOfName_71 : decode cX4_errorOfName 71 = .ok (.aload_n 1, 1) := dk_43 (dk_at dksX4_errorOfName_3 3 rfl rfl)
theorem dX4_errorOfName_72 : decode cX4_errorOfName 72 = .ok (.getfield 344, 3) := dk_180 1 88 (dk_at dksX4_errorOfName_3 4 rfl rfl)
theorem dX4_errorOfName_75 : decode cX4_errorOfName 75 = .ok (.aload_n 1, 1) := dk_43 (dk_at dksX4_errorOfName_3 7 rfl rfl)
theorem dX4_errorOfName_76 : decode cX4_errorOfName 76 = .ok (.getfield 73, 3) := dk_180 0 73 (dk_at dksX4_errorOfName_3 8 rfl rfl)
theorem dX4_errorOfName_79 : decode cX4_errorOfName 79 = .ok (.aload_n 3, 1) := dk_45 (dk_at dksX4_errorOfName_3 11 rfl rfl)
theorem dX4_errorOfName_80 : decode cX4_errorOfName 80 = .ok (.invokestatic 330, 3) := dk_184 1 74 (dk_at dksX4_errorOfName_3 12 rfl rfl)
theorem dX4_errorOfName_83 : decode cX4_errorOfName 83 = .ok (.goto 15, 3) := dk_167 0 15 (dk_at dksX4_errorOfName_3 15 rfl rfl)
theorem dX4_errorOfName_86 : decode cX4_errorOfName 86 = .ok (.aload_n 1, 1) := dk_43 (dk_at dksX4_errorOfName_3 18 rfl rfl)
theorem dX4_errorOfName_87 : decode cX4_errorOfName 87 = .ok (.getfield 338, 3) := dk_180 1 82 (dk_at dksX4_errorOfName_3 19 rfl rfl)
theorem dX4_errorOfName_90 : decode cX4_errorOfName 90 = .ok (.aload_n 1, 1) := dk_43 (dk_at dksX4_errorOfName_3 22 rfl rfl)
theorem dX4_errorOfName_91 : decode cX4_errorOfName 91 = .ok (.getfield 66, 3) := dk_180 0 66 (dk_at dksX4_errorOfName_4 0 rfl rfl)
theorem dX4_errorOfName_94 : decode cX4_errorOfName 94 = .ok (.aload_n 3, 1) := dk_45 (dk_at dksX4_errorOfName_4 3 rfl rfl)
theorem dX4_errorOfName_95 : decode cX4_errorOfName 95 = .ok (.invokestatic 330, 3) := dk_184 1 74 (dk_at dksX4_errorOfName_4 4 rfl rfl)
theorem dX4_errorOfName_98 : decode cX4_errorOfName 98 = .ok (.iastore, 1) := dk_79 (dk_at dksX4_errorOfName_4 7 rfl rfl)
theorem dX4_errorOfName_99 : decode cX4_errorOfName 99 = .ok (.aload_n 1, 1) := dk_43 (dk_at dksX4_errorOfName_4 8 rfl rfl)
theorem dX4_errorOfName_100 : decode cX4_errorOfName 100 = .ok (.getfield 134, 3) := dk_180 0 134 (dk_at dksX4_errorOfName_4 9 rfl rfl)
theorem dX4_errorOfName_103 : decode cX4_errorOfName 103 = .ok (.iload_n 2, 1) := dk_28 (dk_at dksX4_errorOfName_4 12 rfl rfl)
theorem dX4_errorOfName_104 : decode cX4_errorOfName 104 = .ok (.iaload, 1) := dk_46 (dk_at dksX4_errorOfName_4 13 rfl rfl)
theorem dX4_errorOfName_105 : decode cX4_errorOfName 105 = .ok (.iconst (-1), 1) := dk_2 (dk_at dksX4_errorOfName_4 14 rfl rfl)
theorem dX4_errorOfName_106 : decode cX4_errorOfName 106 = .ok (.if_icmp .ne 5, 3) := dk_160 0 5 (dk_at dksX4_errorOfName_4 15 rfl rfl)
theorem dX4_errorOfName_109 : decode cX4_errorOfName 109 = .ok (.iconst 3, 1) := dk_6 (dk_at dksX4_errorOfName_4 18 rfl rfl)
theorem dX4_errorOfName_110 : decode cX4_errorOfName 110 = .ok (.ireturn, 1) := dk_172 (dk_at dksX4_errorOfName_4 19 rfl rfl)
theorem dX4_errorOfName_111 : decode cX4_errorOfName 111 = .ok (.aload_n 1, 1) := dk_43 (dk_at dksX4_errorOfName_4 20 rfl rfl)
theorem dX4_errorOfName_112 : decode cX4_errorOfName 112 = .ok (.getfield 128, 3) := dk_180 0 128 (dk_at dksX4_errorOfName_4 21 rfl rfl)
theorem dX4_errorOfName_115 : decode cX4_errorOfName 115 = .ok (.aload_n 1, 1) := dk_43 (dk_at dksX4_errorOfName_5 0 rfl rfl)
theorem dX4_errorOfName_116 : decode cX4_errorOfName 116 = .ok (.getfield 350, 3) := dk_180 1 94 (dk_at dksX4_errorOfName_5 1 rfl rfl)
theorem dX4_errorOfName_119 : decode cX4_errorOfName 119 = .ok (.iaload, 1) := dk_46 (dk_at dksX4_errorOfName_5 4 rfl rfl)
theorem dX4_errorOfName_120 : decode cX4_errorOfName 120 = .ok (.iconst 2, 1) := dk_5 (dk_at dksX4_errorOfName_5 5 rfl rfl)
theorem dX4_errorOfName_121 : decode cX4_errorOfName 121 = .ok (.if_icmp .ne 17, 3) := dk_160 0 17 (dk_at dksX4_errorOfName_5 6 rfl rfl)
theorem dX4_errorOfName_124 : decode cX4_errorOfName 124 = .ok (.aload_n 0, 1) := dk_42 (dk_at dksX4_errorOfName_5 9 rfl rfl)
theorem dX4_errorOfName_125 : decode cX4_errorOfName 125 = .ok (.aload_n 1, 1) := dk_43 (dk_at dksX4_errorOfName_5 10 rfl rfl)
theorem dX4_errorOfName_126 : decode cX4_errorOfName 126 = .ok (.aload_n 1, 1) := dk_43 (dk_at dksX4_errorOfName_5 11 rfl rfl)
theorem dX4_errorOfName_127 : decode cX4_errorOfName 127 = .ok (.getfield 134, 3) := dk_180 0 134 (dk_at dksX4_errorOfName_5 12 rfl rfl)
theorem dX4_errorOfName_130 : decode cX4_errorOfName 130 = .ok (.iload_n 2, 1) := dk_28 (dk_at dksX4_errorOfName_5 15 rfl rfl)
theorem dX4_errorOfName_131 : decode cX4_errorOfName 131 = .ok (.iaload, 1) := dk_46 (dk_at dksX4_errorOfName_5 16 rfl rfl)
theorem dX4_errorOfName_132 : decode cX4_errorOfName 132 = .ok (.invokevirtual 353, 3) := dk_182 1 97 (dk_at dksX4_errorOfName_5 17 rfl rfl)
theorem dX4_errorOfName_135 : decode cX4_errorOfName 135 = .ok (.goto 4, 3) := dk_167 0 4 (dk_at dksX4_errorOfName_5 20 rfl rfl)
theorem dX4_errorOfName_138 : decode cX4_errorOfName 138 = .ok (.iconst 0, 1) := dk_3 (dk_at dksX4_errorOfName_5 23 rfl rfl)
theorem dX4_errorOfName_139 : decode cX4_errorOfName 139 = .ok (.ireturn, 1) := dk_172 (dk_at dksX4_errorOfName_6 0 rfl rfl)
abbrev cX4_text : ByteArray := prog_40_method_62_code
def yX4_text : MethodName := ⟨RX4, "text", "(LGridTableModel$Sheet;I)Ljava/lang/String;"⟩
def dkwX4_text_2 : List UInt8 := [45, 182, 1, 66, 176]
abbrev dktX4_text_2 : List UInt8 := dkwX4_text_2 ++ []
def dkwX4_text_1 : List UInt8 := [180, 0, 9, 43, 180, 1, 4, 28, 46, 21, 4, 96, 46, 146, 182, 1, 62, 87, 132, 4, 1, 167, 255, 222]
abbrev dktX4_text_1 : List UInt8 := dkwX4_text_1 ++ dktX4_text_2
def dkwX4_text_0 : List UInt8 := [187, 1, 59, 89, 183, 1, 61, 78, 3, 54, 4, 21, 4, 43, 180, 0, 236, 28, 46, 162, 0, 29, 45, 42]
abbrev dktX4_text_0 : List UInt8 := dkwX4_text_0 ++ dktX4_text_1
theorem dksX4_text_0 : cX4_text.data.toList.drop 0 = dktX4_text_0 := by decide +kernel
theorem dksX4_text_1 : cX4_text.data.toList.drop 24 = dktX4_text_1 := dk_seg dksX4_text_0 24 rfl rfl
theorem dksX4_text_2 : cX4_text.data.toList.drop 48 = dktX4_text_2 := dk_seg dksX4_text_1 24 rfl rfl
theorem dX4_text_0 : decode cX4_text 0 = .ok (.new 315, 3) := dk_187 1 59 (dk_at dksX4_text_0 0 rfl rfl)
theorem dX4_text_3 : decode cX4_text 3 = .ok (.dup, 1) := dk_89 (dk_at dksX4_text_0 3 rfl rfl)
theorem dX4_text_4 : decode cX4_text 4 = .ok (.invokespecial 317, 3) := dk_183 1 61 (dk_at dksX4_text_0 4 rfl rfl)
theorem dX4_text_7 : decode cX4_text 7 = .ok (.astore_n 3, 1) := dk_78 (dk_at dksX4_text_0 7 rfl rfl)
theorem dX4_text_8 : decode cX4_text 8 = .ok (.iconst 0, 1) := dk_3 (dk_at dksX4_text_0 8 rfl rfl)
theorem dX4_text_9 : decode cX4_text 9 = .ok (.istore 4, 2) := dk_54 4 (dk_at dksX4_text_0 9 rfl rfl)
theorem dX4_text_11 : decode cX4_text 11 = .ok (.iload 4, 2) := dk_21 4 (dk_at dksX4_text_0 11 rfl rfl)
theorem dX4_text_13 : decode cX4_text 13 = .ok (.aload_n 1, 1) := dk_43 (dk_at dksX4_text_0 13 rfl rfl)
theorem dX4_text_14 : decode cX4_text 14 = .ok (.getfield 236, 3) := dk_180 0 236 (dk_at dksX4_text_0 14 rfl rfl)
theorem dX4_text_17 : decode cX4_text 17 = .ok (.iload_n 2, 1) := dk_28 (dk_at dksX4_text_0 17 rfl rfl)
theorem dX4_text_18 : decode cX4_text 18 = .ok (.iaload, 1) := dk_46 (dk_at dksX4_text_0 18 rfl rfl)
theorem dX4_text_19 : decode cX4_text 19 = .ok (.if_icmp .ge 29, 3) := dk_162 0 29 (dk_at dksX4_text_0 19 rfl rfl)
theorem dX4_text_22 : decode cX4_text 22 = .ok (.aload_n 3, 1) := dk_45 (dk_at dksX4_text_0 22 rfl rfl)
theorem dX4_text_23 : decode cX4_text 23 = .ok (.aload_n 0, 1) := dk_42 (dk_at dksX4_text_0 23 rfl rfl)
theorem dX4_text_24 : decode cX4_text 24 = .ok (.getfield 9, 3) := dk_180 0 9 (dk_at dksX4_text_1 0 rfl rfl)
theorem dX4_text_27 : decode cX4_text 27 = .ok (.aload_n 1, 1) := dk_43 (dk_at dksX4_text_1 3 rfl rfl)
theorem dX4_text_28 : decode cX4_text 28 = .ok (.getfield 260, 3) := dk_180 1 4 (dk_at dksX4_text_1 4 rfl rfl)
theorem dX4_text_31 : decode cX4_text 31 = .ok (.iload_n 2, 1) := dk_28 (dk_at dksX4_text_1 7 rfl rfl)
theorem dX4_text_32 : decode cX4_text 32 = .ok (.iaload, 1) := dk_46 (dk_at dksX4_text_1 8 rfl rfl)
theorem dX4_text_33 : decode cX4_text 33 = .ok (.iload 4, 2) := dk_21 4 (dk_at dksX4_text_1 9 rfl rfl)
theorem dX4_text_35 : decode cX4_text 35 = .ok (.iadd, 1) := dk_96 (dk_at dksX4_text_1 11 rfl rfl)
theorem dX4_text_36 : decode cX4_text 36 = .ok (.iaload, 1) := dk_46 (dk_at dksX4_text_1 12 rfl rfl)
theorem dX4_text_37 : decode cX4_text 37 = .ok (.i2c, 1) := dk_146 (dk_at dksX4_text_1 13 rfl rfl)
theorem dX4_text_38 : decode cX4_text 38 = .ok (.invokevirtual 318, 3) := dk_182 1 62 (dk_at dksX4_text_1 14 rfl rfl)
theorem dX4_text_41 : decode cX4_text 41 = .ok (.pop, 1) := dk_87 (dk_at dksX4_text_1 17 rfl rfl)
theorem dX4_text_42 : decode cX4_text 42 = .ok (.iinc 4 1, 3) := dk_132 4 1 (dk_at dksX4_text_1 18 rfl rfl)
theorem dX4_text_45 : decode cX4_text 45 = .ok (.goto (-34), 3) := dk_167 255 222 (dk_at dksX4_text_1 21 rfl rfl)
theorem dX4_text_48 : decode cX4_text 48 = .ok (.aload_n 3, 1) := dk_45 (dk_at dksX4_text_2 0 rfl rfl)
theorem dX4_text_49 : decode cX4_text 49 = .ok (.invokevirtual 322, 3) := dk_182 1 66 (dk_at dksX4_text_2 1 rfl rfl)
theorem dX4_text_52 : decode cX4_text 52 = .ok (.areturn, 1) := dk_176 (dk_at dksX4_text_2 4 rfl rfl)
abbrev cX4_errorOfNew : ByteArray := prog_40_method_65_code
def yX4_errorOfNew : MethodName := ⟨RX4, "errorOfNew", "([Ljava/lang/String;ILjava/lang/String;)I"⟩
def dkwX4_errorOfNew_1 : List UInt8 := [3, 172]
abbrev dktX4_errorOfNew_1 : List UInt8 := dkwX4_errorOfNew_1 ++ []
def dkwX4_errorOfNew_0 : List UInt8 := [42, 27, 44, 184, 1, 74, 2, 159, 0, 7, 5, 167, 0, 14, 27, 42, 190, 160, 0, 7, 7, 167, 0, 4]
abbrev dktX4_errorOfNew_0 : List UInt8 := dkwX4_errorOfNew_0 ++ dktX4_errorOfNew_1
theorem dksX4_errorOfNew_0 : cX4_errorOfNew.data.toList.drop 0 = dktX4_errorOfNew_0 := by decide +kernel
theorem dksX4_errorOfNew_1 : cX4_errorOfNew.data.toList.drop 24 = dktX4_errorOfNew_1 := dk_seg dksX4_errorOfNew_0 24 rfl rfl
theorem dX4_errorOfNew_0 : decode cX4_errorOfNew 0 = .ok (.aload_n 0, 1) := dk_42 (dk_at dksX4_errorOfNew_0 0 rfl rfl)
theorem dX4_errorOfNew_1 : decode cX4_errorOfNew 1 = .ok (.iload_n 1, 1) := dk_27 (dk_at dksX4_errorOfNew_0 1 rfl rfl)
theorem dX4_errorOfNew_2 : decode cX4_errorOfNew 2 = .ok (.aload_n 2, 1) := dk_44 (dk_at dksX4_errorOfNew_0 2 rfl rfl)
theorem dX4_errorOfNew_3 : decode cX4_errorOfNew 3 = .ok (.invokestatic 330, 3) := dk_184 1 74 (dk_at dksX4_errorOfNew_0 3 rfl rfl)
theorem dX4_errorOfNew_6 : decode cX4_errorOfNew 6 = .ok (.iconst (-1), 1) := dk_2 (dk_at dksX4_errorOfNew_0 6 rfl rfl)
theorem dX4_errorOfNew_7 : decode cX4_errorOfNew 7 = .ok (.if_icmp .eq 7, 3) := dk_159 0 7 (dk_at dksX4_errorOfNew_0 7 rfl rfl)
theorem dX4_errorOfNew_10 : decode cX4_errorOfNew 10 = .ok (.iconst 2, 1) := dk_5 (dk_at dksX4_errorOfNew_0 10 rfl rfl)
theorem dX4_errorOfNew_11 : decode cX4_errorOfNew 11 = .ok (.goto 14, 3) := dk_167 0 14 (dk_at dksX4_errorOfNew_0 11 rfl rfl)
theorem dX4_errorOfNew_14 : decode cX4_errorOfNew 14 = .ok (.iload_n 1, 1) := dk_27 (dk_at dksX4_errorOfNew_0 14 rfl rfl)
theorem dX4_errorOfNew_15 : decode cX4_errorOfNew 15 = .ok (.aload_n 0, 1) := dk_42 (dk_at dksX4_errorOfNew_0 15 rfl rfl)
theorem dX4_errorOfNew_16 : decode cX4_errorOfNew 16 = .ok (.arraylength, 1) := dk_190 (dk_at dksX4_errorOfNew_0 16 rfl rfl)
theorem dX4_errorOfNew_17 : decode cX4_errorOfNew 17 = .ok (.if_icmp .ne 7, 3) := dk_160 0 7 (dk_at dksX4_errorOfNew_0 17 rfl rfl)
theorem dX4_errorOfNew_20 : decode cX4_errorOfNew 20 = .ok (.iconst 4, 1) := dk_7 (dk_at dksX4_errorOfNew_0 20 rfl rfl)
theorem dX4_errorOfNew_21 : decode cX4_errorOfNew 21 = .ok (.goto 4, 3) := dk_167 0 4 (dk_at dksX4_errorOfNew_0 21 rfl rfl)
theorem dX4_errorOfNew_24 : decode cX4_errorOfNew 24 = .ok (.iconst 0, 1) := dk_3 (dk_at dksX4_errorOfNew_1 0 rfl rfl)
theorem dX4_errorOfNew_25 : decode cX4_errorOfNew 25 = .ok (.ireturn, 1) := dk_172 (dk_at dksX4_errorOfNew_1 1 rfl rfl)
abbrev cX4_find : ByteArray := prog_40_method_64_code
def yX4_find : MethodName := ⟨RX4, "find", "([Ljava/lang/String;ILjava/lang/String;)I"⟩
def dkwX4_find_1 : List UInt8 := [167, 255, 236, 2, 172]
abbrev dktX4_find_1 : List UInt8 := dkwX4_find_1 ++ []
def dkwX4_find_0 : List UInt8 := [3, 62, 29, 27, 162, 0, 21, 42, 29, 50, 44, 182, 1, 70, 153, 0, 5, 29, 172, 132, 3, 1]
abbrev dktX4_find_0 : List UInt8 := dkwX4_find_0 ++ dktX4_find_1
theorem dksX4_find_0 : cX4_find.data.toList.drop 0 = dktX4_find_0 := by decide +kernel
theorem dksX4_find_1 : cX4_find.data.toList.drop 22 = dktX4_find_1 := dk_seg dksX4_find_0 22 rfl rfl
theorem dX4_find_0 : decode cX4_find 0 = .ok (.iconst 0, 1) := dk_3 (dk_at dksX4_find_0 0 rfl rfl)
theorem dX4_find_1 : decode cX4_find 1 = .ok (.istore_n 3, 1) := dk_62 (dk_at dksX4_find_0 1 rfl rfl)
theorem dX4_find_2 : decode cX4_find 2 = .ok (.iload_n 3, 1) := dk_29 (dk_at dksX4_find_0 2 rfl rfl)
theorem dX4_find_3 : decode cX4_find 3 = .ok (.iload_n 1, 1) := dk_27 (dk_at dksX4_find_0 3 rfl rfl)
theorem dX4_find_4 : decode cX4_find 4 = .ok (.if_icmp .ge 21, 3) := dk_162 0 21 (dk_at dksX4_find_0 4 rfl rfl)
theorem dX4_find_7 : decode cX4_find 7 = .ok (.aload_n 0, 1) := dk_42 (dk_at dksX4_find_0 7 rfl rfl)
theorem dX4_find_8 : decode cX4_find 8 = .ok (.iload_n 3, 1) := dk_29 (dk_at dksX4_find_0 8 rfl rfl)
theorem dX4_find_9 : decode cX4_find 9 = .ok (.aaload, 1) := dk_50 (dk_at dksX4_find_0 9 rfl rfl)
theorem dX4_find_10 : decode cX4_find 10 = .ok (.aload_n 2, 1) := dk_44 (dk_at dksX4_find_0 10 rfl rfl)
theorem dX4_find_11 : decode cX4_find 11 = .ok (.invokevirtual 326, 3) := dk_182 1 70 (dk_at dksX4_find_0 11 rfl rfl)
theorem dX4_find_14 : decode cX4_find 14 = .ok (.ifCond .eq 5, 3) := dk_153 0 5 (dk_at dksX4_find_0 14 rfl rfl)
theorem dX4_find_17 : decode cX4_find 17 = .ok (.iload_n 3, 1) := dk_29 (dk_at dksX4_find_0 17 rfl rfl)
theorem dX4_find_18 : decode cX4_find 18 = .ok (.ireturn, 1) := dk_172 (dk_at dksX4_find_0 18 rfl rfl)
theorem dX4_find_19 : decode cX4_find 19 = .ok (.iinc 3 1, 3) := dk_132 3 1 (dk_at dksX4_find_0 19 rfl rfl)
theorem dX4_find_22 : decode cX4_find 22 = .ok (.goto (-20), 3) := dk_167 255 236 (dk_at dksX4_find_1 0 rfl rfl)
theorem dX4_find_25 : decode cX4_find 25 = .ok (.iconst (-1), 1) := dk_2 (dk_at dksX4_find_1 3 rfl rfl)
theorem dX4_find_26 : decode cX4_find 26 = .ok (.ireturn, 1) := dk_172 (dk_at dksX4_find_1 4 rfl rfl)
abbrev cX4_isOfShape : ByteArray := prog_40_method_66_code
def yX4_isOfShape : MethodName := ⟨RX4, "isOfShape", "(LGridTableModel$Sheet;I)Z"⟩
def dkwX4_isOfShape_3 : List UInt8 := [4, 167, 0, 4, 3, 172]
abbrev dktX4_isOfShape_3 : List UInt8 := dkwX4_isOfShape_3 ++ []
def dkwX4_isOfShape_2 : List UInt8 := [28, 16, 13, 159, 0, 21, 28, 16, 20, 160, 0, 19, 29, 16, 13, 159, 0, 9, 29, 16, 14, 160, 0, 7]
abbrev dktX4_isOfShape_2 : List UInt8 := dkwX4_isOfShape_2 ++ dktX4_isOfShape_3
def dkwX4_isOfShape_1 : List UInt8 := [167, 0, 5, 16, 60, 62, 28, 16, 6, 159, 0, 39, 28, 16, 8, 159, 0, 33, 28, 16, 12, 159, 0, 27]
abbrev dktX4_isOfShape_1 : List UInt8 := dkwX4_isOfShape_1 ++ dktX4_isOfShape_2
def dkwX4_isOfShape_0 : List UInt8 := [42, 180, 0, 128, 27, 4, 100, 46, 61, 27, 4, 164, 0, 14, 42, 180, 0, 128, 27, 5, 100, 46]
abbrev dktX4_isOfShape_0 : List UInt8 := dkwX4_isOfShape_0 ++ dktX4_isOfShape_1
theorem dksX4_isOfShape_0 : cX4_isOfShape.data.toList.drop 0 = dktX4_isOfShape_0 := by decide +kernel
theorem dksX4_isOfShape_1 : cX4_isOfShape.data.toList.drop 22 = dktX4_isOfShape_1 := dk_seg dksX4_isOfShape_0 22 rfl rfl
theorem dksX4_isOfShape_2 : cX4_isOfShape.data.toList.drop 46 = dktX4_isOfShape_2 := dk_seg dksX4_isOfShape_1 24 rfl rfl
theorem dksX4_isOfShape_3 : cX4_isOfShape.data.toList.drop 70 = dktX4_isOfShape_3 := dk_seg dksX4_isOfShape_2 24 rfl rfl
theorem dX4_isOfShape_0 : decode cX4_isOfShape 0 = .ok (.aload_n 0, 1) := dk_42 (dk_at dksX4_isOfShape_0 0 rfl rfl)
theorem dX4_isOfShape_1 : decode cX4_isOfShape 1 = .ok (.getfield 128, 3) := dk_180 0 128 (dk_at dksX4_isOfShape_0 1 rfl rfl)
theorem dX4_isOfShape_4 : decode cX4_isOfShape 4 = .ok (.iload_n 1, 1) := dk_27 (dk_at dksX4_isOfShape_0 4 rfl rfl)
theorem dX4_isOfShape_5 : decode cX4_isOfShape 5 = .ok (.iconst 1, 1) := dk_4 (dk_at dksX4_isOfShape_0 5 rfl rfl)
theorem dX4_isOfShape_6 : decode cX4_isOfShape 6 = .ok (.isub, 1) := dk_100 (dk_at dksX4_isOfShape_0 6 rfl rfl)
theorem dX4_isOfShape_7 : decode cX4_isOfShape 7 = .ok (.iaload, 1) := dk_46 (dk_at dksX4_isOfShape_0 7 rfl rfl)
theorem dX4_isOfShape_8 : decode cX4_isOfShape 8 = .ok (.istore_n 2, 1) := dk_61 (dk_at dksX4_isOfShape_0 8 rfl rfl)
theorem dX4_isOfShape_9 : decode cX4_isOfShape 9 = .ok (.iload_n 1, 1) := dk_27 (dk_at dksX4_isOfShape_0 9 rfl rfl)
theorem dX4_isOfShape_10 : decode cX4_isOfShape 10 = .ok (.iconst 1, 1) := dk_4 (dk_at dksX4_isOfShape_0 10 rfl rfl)
theorem dX4_isOfShape_11 : decode cX4_isOfShape 11 = .ok (.if_icmp .le 14, 3) := dk_164 0 14 (dk_at dksX4_isOfShape_0 11 rfl rfl)
theorem dX4_isOfShape_14 : decode cX4_isOfShape 14 = .ok (.aload_n 0, 1) := dk_42 (dk_at dksX4_isOfShape_0 14 rfl rfl)
theorem dX4_isOfShape_15 : decode cX4_isOfShape 15 = .ok (.getfield 128, 3) := dk_180 0 128 (dk_at dksX4_isOfShape_0 15 rfl rfl)
theorem dX4_isOfShape_18 : decode cX4_isOfShape 18 = .ok (.iload_n 1, 1) := dk_27 (dk_at dksX4_isOfShape_0 18 rfl rfl)
theorem dX4_isOfShape_19 : decode cX4_isOfShape 19 = .ok (.iconst 2, 1) := dk_5 (dk_at dksX4_isOfShape_0 19 rfl rfl)
theorem dX4_isOfShape_20 : decode cX4_isOfShape 20 = .ok (.isub, 1) := dk_100 (dk_at dksX4_isOfShape_0 20 rfl rfl)
theorem dX4_isOfShape_21 : decode cX4_isOfShape 21 = .ok (.iaload, 1) := dk_46 (dk_at dksX4_isOfShape_0 21 rfl rfl)
theorem dX4_isOfShape_22 : decode cX4_isOfShape 22 = .ok (.goto 5, 3) := dk_167 0 5 (dk_at dksX4_isOfShape_1 0 rfl rfl)
theorem dX4_isOfShape_25 : decode cX4_isOfShape 25 = .ok (.bipush 60, 2) := dk_16 60 (dk_at dksX4_isOfShape_1 3 rfl rfl)
theorem dX4_isOfShape_27 : decode cX4_isOfShape 27 = .ok (.istore_n 3, 1) := dk_62 (dk_at dksX4_isOfShape_1 5 rfl rfl)
theorem dX4_isOfShape_28 : decode cX4_isOfShape 28 = .ok (.iload_n 2, 1) := dk_28 (dk_at dksX4_isOfShape_1 6 rfl rfl)
theorem dX4_isOfShape_29 : decode cX4_isOfShape 29 = .ok (.bipush 6, 2) := dk_16 6 (dk_at dksX4_isOfShape_1 7 rfl rfl)
theorem dX4_isOfShape_31 : decode cX4_isOfShape 31 = .ok (.if_icmp .eq 39, 3) := dk_159 0 39 (dk_at dksX4_isOfShape_1 9 rfl rfl)
theorem dX4_isOfShape_34 : decode cX4_isOfShape 34 = .ok (.iload_n 2, 1) := dk_28 (dk_at dksX4_isOfShape_1 12 rfl rfl)
theorem dX4_isOfShape_35 : decode cX4_isOfShape 35 = .ok (.bipush 8, 2) := dk_16 8 (dk_at dksX4_isOfShape_1 13 rfl rfl)
theorem dX4_isOfShape_37 : decode cX4_isOfShape 37 = .ok (.if_icmp .eq 33, 3) := dk_159 0 33 (dk_at dksX4_isOfShape_1 15 rfl rfl)
theorem dX4_isOfShape_40 : decode cX4_isOfShape 40 = .ok (.iload_n 2, 1) := dk_28 (dk_at dksX4_isOfShape_1 18 rfl rfl)
theorem dX4_isOfShape_41 : decode cX4_isOfShape 41 = .ok (.bipush 12, 2) := dk_16 12 (dk_at dksX4_isOfShape_1 19 rfl rfl)
theorem dX4_isOfShape_43 : decode cX4_isOfShape 43 = .ok (.if_icmp .eq 27, 3) := dk_159 0 27 (dk_at dksX4_isOfShape_1 21 rfl rfl)
theorem dX4_isOfShape_46 : decode cX4_isOfShape 46 = .ok (.iload_n 2, 1) := dk_28 (dk_at dksX4_isOfShape_2 0 rfl rfl)
theorem dX4_isOfShape_47 : decode cX4_isOfShape 47 = .ok (.bipush 13, 2) := dk_16 13 (dk_at dksX4_isOfShape_2 1 rfl rfl)
theorem dX4_isOfShape_49 : decode cX4_isOfShape 49 = .ok (.if_icmp .eq 21, 3) := dk_159 0 21 (dk_at dksX4_isOfShape_2 3 rfl rfl)
theorem dX4_isOfShape_52 : decode cX4_isOfShape 52 = .ok (.iload_n 2, 1) := dk_28 (dk_at dksX4_isOfShape_2 6 rfl rfl)
theorem dX4_isOfShape_53 : decode cX4_isOfShape 53 = .ok (.bipush 20, 2) := dk_16 20 (dk_at dksX4_isOfShape_2 7 rfl rfl)
theorem dX4_isOfShape_55 : decode cX4_isOfShape 55 = .ok (.if_icmp .ne 19, 3) := dk_160 0 19 (dk_at dksX4_isOfShape_2 9 rfl rfl)
theorem dX4_isOfShape_58 : decode cX4_isOfShape 58 = .ok (.iload_n 3, 1) := dk_29 (dk_at dksX4_isOfShape_2 12 rfl rfl)
theorem dX4_isOfShape_59 : decode cX4_isOfShape 59 = .ok (.bipush 13, 2) := dk_16 13 (dk_at dksX4_isOfShape_2 13 rfl rfl)
theorem dX4_isOfShape_61 : decode cX4_isOfShape 61 = .ok (.if_icmp .eq 9, 3) := dk_159 0 9 (dk_at dksX4_isOfShape_2 15 rfl rfl)
theorem dX4_isOfShape_64 : decode cX4_isOfShape 64 = .ok (.iload_n 3, 1) := dk_29 (dk_at dksX4_isOfShape_2 18 rfl rfl)
theorem dX4_isOfShape_65 : decode cX4_isOfShape 65 = .ok (.bipush 14, 2) := dk_16 14 (dk_at dksX4_isOfShape_2 19 rfl rfl)
theorem dX4_isOfShape_67 : decode cX4_isOfShape 67 = .ok (.if_icmp .ne 7, 3) := dk_160 0 7 (dk_at dksX4_isOfShape_2 21 rfl rfl)
theorem dX4_isOfShape_70 : decode cX4_isOfShape 70 = .ok (.iconst 1, 1) := dk_4 (dk_at dksX4_isOfShape_3 0 rfl rfl)
theorem dX4_isOfShape_71 : decode cX4_isOfShape 71 = .ok (.goto 4, 3) := dk_167 0 4 (dk_at dksX4_isOfShape_3 1 rfl rfl)
theorem dX4_isOfShape_74 : decode cX4_isOfShape 74 = .ok (.iconst 0, 1) := dk_3 (dk_at dksX4_isOfShape_3 4 rfl rfl)
theorem dX4_isOfShape_75 : decode cX4_isOfShape 75 = .ok (.ireturn, 1) := dk_172 (dk_at dksX4_isOfShape_3 5 rfl rfl)
abbrev cX4_errorOfCorner : ByteArray := prog_40_method_68_code
def yX4_errorOfCorner : MethodName := ⟨RX4, "errorOfCorner", "(LGridTableModel$Sheet;I)I"⟩
def dkwX4_errorOfCorner_3 : List UInt8 := [79, 43, 180, 0, 82, 29, 92, 46, 4, 96, 79, 3, 172]
abbrev dktX4_errorOfCorner_3 : List UInt8 := dkwX4_errorOfCorner_3 ++ []
def dkwX4_errorOfCorner_2 : List UInt8 := [8, 172, 132, 4, 1, 167, 255, 224, 43, 180, 0, 79, 16, 8, 29, 104, 43, 180, 0, 82, 29, 46, 96, 28]
abbrev dktX4_errorOfCorner_2 : List UInt8 := dkwX4_errorOfCorner_2 ++ dktX4_errorOfCorner_3
def dkwX4_errorOfCorner_1 : List UInt8 := [180, 0, 82, 29, 46, 162, 0, 27, 43, 180, 0, 79, 16, 8, 29, 104, 21, 4, 96, 46, 28, 160, 0, 5]
abbrev dktX4_errorOfCorner_1 : List UInt8 := dkwX4_errorOfCorner_1 ++ dktX4_errorOfCorner_2
def dkwX4_errorOfCorner_0 : List UInt8 := [43, 180, 0, 73, 62, 43, 180, 0, 82, 29, 46, 16, 8, 160, 0, 5, 7, 172, 3, 54, 4, 21, 4, 43]
abbrev dktX4_errorOfCorner_0 : List UInt8 := dkwX4_errorOfCorner_0 ++ dktX4_errorOfCorner_1
theorem dksX4_errorOfCorner_0 : cX4_errorOfCorner.data.toList.drop 0 = dktX4_errorOfCorner_0 := by decide +kernel
theorem dksX4_errorOfCorner_1 : cX4_errorOfCorner.data.toList.drop 24 = dktX4_errorOfCorner_1 := dk_seg dksX4_errorOfCorner_0 24 rfl rfl
theorem dksX4_errorOfCorner_2 : cX4_errorOfCorner.data.toList.drop 48 = dktX4_errorOfCorner_2 := dk_seg dksX4_errorOfCorner_1 24 rfl rfl
theorem dksX4_errorOfCorner_3 : cX4_errorOfCorner.data.toList.drop 72 = dktX4_errorOfCorner_3 := dk_seg dksX4_errorOfCorner_2 24 rfl rfl
theorem dX4_errorOfCorner_0 : decode cX4_errorOfCorner 0 = .ok (.aload_n 1, 1) := dk_43 (dk_at dksX4_errorOfCorner_0 0 rfl rfl)
theorem dX4_errorOfCorner_1 : decode cX4_errorOfCorner 1 = .ok (.getfield 73, 3) := dk_180 0 73 (dk_at dksX4_errorOfCorner_0 1 rfl rfl)
theorem dX4_errorOfCorner_4 : decode cX4_errorOfCorner 4 = .ok (.istore_n 3, 1) := dk_62 (dk_at dksX4_errorOfCorner_0 4 rfl rfl)
theorem dX4_errorOfCorner_5 : decode cX4_errorOfCorner 5 = .ok (.aload_n 1, 1) := dk_43 (dk_at dksX4_errorOfCorner_0 5 rfl rfl)
theorem dX4_errorOfCorner_6 : decode cX4_errorOfCorner 6 = .ok (.getfield 82, 3) := dk_180 0 82 (dk_at dksX4_errorOfCorner_0 6 rfl rfl)
theorem dX4_errorOfCorner_9 : decode cX4_errorOfCorner 9 = .ok (.iload_n 3, 1) := dk_29 (dk_at dksX4_errorOfCorner_0 9 rfl rfl)
theorem dX4_errorOfCorner_10 : decode cX4_errorOfCorner 10 = .ok (.iaload, 1) := dk_46 (dk_at dksX4_errorOfCorner_0 10 rfl rfl)
theorem dX4_errorOfCorner_11 : decode cX4_errorOfCorner 11 = .ok (.bipush 8, 2) := dk_16 8 (dk_at dksX4_errorOfCorner_0 11 rfl rfl)
theorem dX4_errorOfCorner_13 : decode cX4_errorOfCorner 13 = .ok (.if_icmp .ne 5, 3) := dk_160 0 5 (dk_at dksX4_errorOfCorner_0 13 rfl rfl)
theorem dX4_errorOfCorner_16 : decode cX4_errorOfCorner 16 = .ok (.iconst 4, 1) := dk_7 (dk_at dksX4_errorOfCorner_0 16 rfl rfl)
theorem dX4_errorOfCorner_17 : decode cX4_errorOfCorner 17 = .ok (.ireturn, 1) := dk_172 (dk_at dksX4_errorOfCorner_0 17 rfl rfl)
theorem dX4_errorOfCorner_18 : decode cX4_errorOfCorner 18 = .ok (.iconst 0, 1) := dk_3 (dk_at dksX4_errorOfCorner_0 18 rfl rfl)
theorem dX4_errorOfCorner_19 : decode cX4_errorOfCorner 19 = .ok (.istore 4, 2) := dk_54 4 (dk_at dksX4_errorOfCorner_0 19 rfl rfl)
theorem dX4_errorOfCorner_21 : decode cX4_errorOfCorner 21 = .ok (.iload 4, 2) := dk_21 4 (dk_at dksX4_errorOfCorner_0 21 rfl rfl)
theorem dX4_errorOfCorner_23 : decode cX4_errorOfCorner 23 = .ok (.aload_n 1, 1) := dk_43 (dk_at dksX4_errorOfCorner_0 23 rfl rfl)
theorem dX4_errorOfCorner_24 : decode cX4_errorOfCorner 24 = .ok (.getfield 82, 3) := dk_180 0 82 (dk_at dksX4_errorOfCorner_1 0 rfl rfl)
theorem dX4_errorOfCorner_27 : decode cX4_errorOfCorner 27 = .ok (.iload_n 3, 1) := dk_29 (dk_at dksX4_errorOfCorner_1 3 rfl rfl)
theorem dX4_errorOfCorner_28 : decode cX4_errorOfCorner 28 = .ok (.iaload, 1) := dk_46 (dk_at dksX4_errorOfCorner_1 4 rfl rfl)
theorem dX4_errorOfCorner_29 : decode cX4_errorOfCorner 29 = .ok (.if_icmp .ge 27, 3) := dk_162 0 27 (dk_at dksX4_errorOfCorner_1 5 rfl rfl)
theorem dX4_errorOfCorner_32 : decode cX4_errorOfCorner 32 = .ok (.aload_n 1, 1) := dk_43 (dk_at dksX4_errorOfCorner_1 8 rfl rfl)
theorem dX4_errorOfCorner_33 : decode cX4_errorOfCorner 33 = .ok (.getfield 79, 3) := dk_180 0 79 (dk_at dksX4_errorOfCorner_1 9 rfl rfl)
theorem dX4_errorOfCorner_36 : decode cX4_errorOfCorner 36 = .ok (.bipush 8, 2) := dk_16 8 (dk_at dksX4_errorOfCorner_1 12 rfl rfl)
theorem dX4_errorOfCorner_38 : decode cX4_errorOfCorner 38 = .ok (.iload_n 3, 1) := dk_29 (dk_at dksX4_errorOfCorner_1 14 rfl rfl)
theorem dX4_errorOfCorner_39 : decode cX4_errorOfCorner 39 = .ok (.imul, 1) := dk_104 (dk_at dksX4_errorOfCorner_1 15 rfl rfl)
theorem dX4_errorOfCorner_40 : decode cX4_errorOfCorner 40 = .ok (.iload 4, 2) := dk_21 4 (dk_at dksX4_errorOfCorner_1 16 rfl rfl)
theorem dX4_errorOfCorner_42 : decode cX4_errorOfCorner 42 = .ok (.iadd, 1) := dk_96 (dk_at dksX4_errorOfCorner_1 18 rfl rfl)
theorem dX4_errorOfCorner_43 : decode cX4_errorOfCorner 43 = .ok (.iaload, 1) := dk_46 (dk_at dksX4_errorOfCorner_1 19 rfl rfl)
theorem dX4_errorOfCorner_44 : decode cX4_errorOfCorner 44 = .ok (.iload_n 2, 1) := dk_28 (dk_at dksX4_errorOfCorner_1 20 rfl rfl)
theorem dX4_errorOfCorner_45 : decode cX4_errorOfCorner 45 = .ok (.if_icmp .ne 5, 3) := dk_160 0 5 (dk_at dksX4_errorOfCorner_1 21 rfl rfl)
theorem dX4_errorOfCorner_48 : decode cX4_errorOfCorner 48 = .ok (.iconst 5, 1) := dk_8 (dk_at dksX4_errorOfCorner_2 0 rfl rfl)
theorem dX4_errorOfCorner_49 : decode cX4_errorOfCorner 49 = .ok (.ireturn, 1) := dk_172 (dk_at dksX4_errorOfCorner_2 1 rfl rfl)
theorem dX4_errorOfCorner_50 : decode cX4_errorOfCorner 50 = .ok (.iinc 4 1, 3) := dk_132 4 1 (dk_at dksX4_errorOfCorner_2 2 rfl rfl)
theorem dX4_errorOfCorner_53 : decode cX4_errorOfCorner 53 = .ok (.goto (-32), 3) := dk_167 255 224 (dk_at dksX4_errorOfCorner_2 5 rfl rfl)
theorem dX4_errorOfCorner_56 : decode cX4_errorOfCorner 56 = .ok (.aload_n 1, 1) := dk_43 (dk_at dksX4_errorOfCorner_2 8 rfl rfl)
theorem dX4_errorOfCorner_57 : decode cX4_errorOfCorner 57 = .ok (.getfield 79, 3) := dk_180 0 79 (dk_at dksX4_errorOfCorner_2 9 rfl rfl)
theorem dX4_errorOfCorner_60 : decode cX4_errorOfCorner 60 = .ok (.bipush 8, 2) := dk_16 8 (dk_at dksX4_errorOfCorner_2 12 rfl rfl)
theorem dX4_errorOfCorner_62 : decode cX4_errorOfCorner 62 = .ok (.iload_n 3, 1) := dk_29 (dk_at dksX4_errorOfCorner_2 14 rfl rfl)
theorem dX4_errorOfCorner_63 : decode cX4_errorOfCorner 63 = .ok (.imul, 1) := dk_104 (dk_at dksX4_errorOfCorner_2 15 rfl rfl)
theorem dX4_errorOfCorner_64 : decode cX4_errorOfCorner 64 = .ok (.aload_n 1, 1) := dk_43 (dk_at dksX4_errorOfCorner_2 16 rfl rfl)
theorem dX4_errorOfCorner_65 : decode cX4_errorOfCorner 65 = .ok (.getfield 82, 3) := dk_180 0 82 (dk_at dksX4_errorOfCorner_2 17 rfl rfl)
theorem dX4_errorOfCorner_68 : decode cX4_errorOfCorner 68 = .ok (.iload_n 3, 1) := dk_29 (dk_at dksX4_errorOfCorner_2 20 rfl rfl)
theorem dX4_errorOfCorner_69 : decode cX4_errorOfCorner 69 = .ok (.iaload, 1) := dk_46 (dk_at dksX4_errorOfCorner_2 21 rfl rfl)
theorem dX4_errorOfCorner_70 : decode cX4_errorOfCorner 70 = .ok (.iadd, 1) := dk_96 (dk_at dksX4_errorOfCorner_2 22 rfl rfl)
theorem dX4_errorOfCorner_71 : decode cX4_errorOfCorner 71 = .ok (.iload_n 2, 1) := dk_28 (dk_at dksX4_errorOfCorner_2 23 rfl rfl)
theorem dX4_errorOfCorner_72 : decode cX4_errorOfCorner 72 = .ok (.iastore, 1) := dk_79 (dk_at dksX4_errorOfCorner_3 0 rfl rfl)
theorem dX4_errorOfCorner_73 : decode cX4_errorOfCorner 73 = .ok (.aload_n 1, 1) := dk_43 (dk_at dksX4_errorOfCorner_3 1 rfl rfl)
theorem dX4_errorOfCorner_74 : decode cX4_errorOfCorner 74 = .ok (.getfield 82, 3) := dk_180 0 82 (dk_at dksX4_errorOfCorner_3 2 rfl rfl)
theorem dX4_errorOfCorner_77 : decode cX4_errorOfCorner 77 = .ok (.iload_n 3, 1) := dk_29 (dk_at dksX4_errorOfCorner_3 5 rfl rfl)
theorem dX4_errorOfCorner_78 : decode cX4_errorOfCorner 78 = .ok (.dup2, 1) := dk_92 (dk_at dksX4_errorOfCorner_3 6 rfl rfl)
theorem dX4_errorOfCorner_79 : decode cX4_errorOfCorner 79 = .ok (.iaload, 1) := dk_46 (dk_at dksX4_errorOfCorner_3 7 rfl rfl)
theorem dX4_errorOfCorner_80 : decode cX4_errorOfCorner 80 = .ok (.iconst 1, 1) := dk_4 (dk_at dksX4_errorOfCorner_3 8 rfl rfl)
theorem dX4_errorOfCorner_81 : decode cX4_errorOfCorner 81 = .ok (.iadd, 1) := dk_96 (dk_at dksX4_errorOfCorner_3 9 rfl rfl)
theorem dX4_errorOfCorner_82 : decode cX4_errorOfCorner 82 = .ok (.iastore, 1) := dk_79 (dk_at dksX4_errorOfCorner_3 10 rfl rfl)
theorem dX4_errorOfCorner_83 : decode cX4_errorOfCorner 83 = .ok (.iconst 0, 1) := dk_3 (dk_at dksX4_errorOfCorner_3 11 rfl rfl)
theorem dX4_errorOfCorner_84 : decode cX4_errorOfCorner 84 = .ok (.ireturn, 1) := dk_172 (dk_at dksX4_errorOfCorner_3 12 rfl rfl)
abbrev cX4_number : ByteArray := prog_40_method_63_code
def yX4_number : MethodName := ⟨RX4, "number", "(LGridTableModel$Sheet;I)I"⟩
def dkwX4_number_1 : List UInt8 := [43, 180, 1, 4, 28, 46, 21, 4, 96, 46, 96, 16, 48, 100, 62, 132, 4, 1, 167, 255, 219, 29, 172]
abbrev dktX4_number_1 : List UInt8 := dkwX4_number_1 ++ []
def dkwX4_number_0 : List UInt8 := [3, 62, 3, 54, 4, 21, 4, 43, 180, 0, 236, 28, 46, 162, 0, 32, 16, 10, 29, 104, 42, 180, 0, 9]
abbrev dktX4_number_0 : List UInt8 := dkwX4_number_0 ++ dktX4_number_1
theorem dksX4_number_0 : cX4_number.data.toList.drop 0 = dktX4_number_0 := by decide +kernel
theorem dksX4_number_1 : cX4_number.data.toList.drop 24 = dktX4_number_1 := dk_seg dksX4_number_0 24 rfl rfl
theorem dX4_number_0 : decode cX4_number 0 = .ok (.iconst 0, 1) := dk_3 (dk_at dksX4_number_0 0 rfl rfl)
theorem dX4_number_1 : decode cX4_number 1 = .ok (.istore_n 3, 1) := dk_62 (dk_at dksX4_number_0 1 rfl rfl)
theorem dX4_number_2 : decode cX4_number 2 = .ok (.iconst 0, 1) := dk_3 (dk_at dksX4_number_0 2 rfl rfl)
theorem dX4_number_3 : decode cX4_number 3 = .ok (.istore 4, 2) := dk_54 4 (dk_at dksX4_number_0 3 rfl rfl)
theorem dX4_number_5 : decode cX4_number 5 = .ok (.iload 4, 2) := dk_21 4 (dk_at dksX4_number_0 5 rfl rfl)
theorem dX4_number_7 : decode cX4_number 7 = .ok (.aload_n 1, 1) := dk_43 (dk_at dksX4_number_0 7 rfl rfl)
theorem dX4_number_8 : decode cX4_number 8 = .ok (.getfield 236, 3) := dk_180 0 236 (dk_at dksX4_number_0 8 rfl rfl)
theorem dX4_number_11 : decode cX4_number 11 = .ok (.iload_n 2, 1) := dk_28 (dk_at dksX4_number_0 11 rfl rfl)
theorem dX4_number_12 : decode cX4_number 12 = .ok (.iaload, 1) := dk_46 (dk_at dksX4_number_0 12 rfl rfl)
theorem dX4_number_13 : decode cX4_number 13 = .ok (.if_icmp .ge 32, 3) := dk_162 0 32 (dk_at dksX4_number_0 13 rfl rfl)
theorem dX4_number_16 : decode cX4_number 16 = .ok (.bipush 10, 2) := dk_16 10 (dk_at dksX4_number_0 16 rfl rfl)
theorem dX4_number_18 : decode cX4_number 18 = .ok (.iload_n 3, 1) := dk_29 (dk_at dksX4_number_0 18 rfl rfl)
theorem dX4_number_19 : decode cX4_number 19 = .ok (.imul, 1) := dk_104 (dk_at dksX4_number_0 19 rfl rfl)
theorem dX4_number_20 : decode cX4_number 20 = .ok (.aload_n 0, 1) := dk_42 (dk_at dksX4_number_0 20 rfl rfl)
theorem dX4_number_21 : decode cX4_number 21 = .ok (.getfield 9, 3) := dk_180 0 9 (dk_at dksX4_number_0 21 rfl rfl)
theorem dX4_number_24 : decode cX4_number 24 = .ok (.aload_n 1, 1) := dk_43 (dk_at dksX4_number_1 0 rfl rfl)
theorem dX4_number_25 : decode cX4_number 25 = .ok (.getfield 260, 3) := dk_180 1 4 (dk_at dksX4_number_1 1 rfl rfl)
theorem dX4_number_28 : decode cX4_number 28 = .ok (.iload_n 2, 1) := dk_28 (dk_at dksX4_number_1 4 rfl rfl)
theorem dX4_number_29 : decode cX4_number 29 = .ok (.iaload, 1) := dk_46 (dk_at dksX4_number_1 5 rfl rfl)
theorem dX4_number_30 : decode cX4_number 30 = .ok (.iload 4, 2) := dk_21 4 (dk_at dksX4_number_1 6 rfl rfl)
theorem dX4_number_32 : decode cX4_number 32 = .ok (.iadd, 1) := dk_96 (dk_at dksX4_number_1 8 rfl rfl)
theorem dX4_number_33 : decode cX4_number 33 = .ok (.iaload, 1) := dk_46 (dk_at dksX4_number_1 9 rfl rfl)
theorem dX4_number_34 : decode cX4_number 34 = .ok (.iadd, 1) := dk_96 (dk_at dksX4_number_1 10 rfl rfl)
theorem dX4_number_35 : decode cX4_number 35 = .ok (.bipush 48, 2) := dk_16 48 (dk_at dksX4_number_1 11 rfl rfl)
theorem dX4_number_37 : decode cX4_number 37 = .ok (.isub, 1) := dk_100 (dk_at dksX4_number_1 13 rfl rfl)
theorem dX4_number_38 : decode cX4_number 38 = .ok (.istore_n 3, 1) := dk_62 (dk_at dksX4_number_1 14 rfl rfl)
theorem dX4_number_39 : decode cX4_number 39 = .ok (.iinc 4 1, 3) := dk_132 4 1 (dk_at dksX4_number_1 15 rfl rfl)
theorem dX4_number_42 : decode cX4_number 42 = .ok (.goto (-37), 3) := dk_167 255 219 (dk_at dksX4_number_1 18 rfl rfl)
theorem dX4_number_45 : decode cX4_number 45 = .ok (.iload_n 3, 1) := dk_29 (dk_at dksX4_number_1 21 rfl rfl)
theorem dX4_number_46 : decode cX4_number 46 = .ok (.ireturn, 1) := dk_172 (dk_at dksX4_number_1 22 rfl rfl)
abbrev cX4_end : ByteArray := prog_40_method_69_code
def yX4_end : MethodName := ⟨RX4, "end", "(LGridTableModel$Sheet;LGridTableModel$Places;)V"⟩
def dkwX4_end_6 : List UInt8 := [182, 1, 78, 83, 43, 89, 180, 0, 66, 4, 96, 181, 0, 66, 177]
abbrev dktX4_end_6 : List UInt8 := dkwX4_end_6 ++ []
def dkwX4_end_5 : List UInt8 := [180, 0, 66, 21, 5, 133, 184, 0, 182, 79, 43, 180, 1, 82, 43, 180, 0, 66, 42, 43, 29, 4, 96]
abbrev dktX4_end_5 : List UInt8 := dkwX4_end_5 ++ dktX4_end_6
def dkwX4_end_4 : List UInt8 := [54, 5, 44, 180, 0, 85, 43, 180, 0, 66, 21, 4, 133, 184, 0, 182, 79, 44, 180, 0, 88, 43]
abbrev dktX4_end_4 : List UInt8 := dkwX4_end_4 ++ dktX4_end_5
def dkwX4_end_3 : List UInt8 := [181, 0, 131, 42, 182, 0, 158, 54, 4, 42, 89, 180, 0, 131, 4, 96, 181, 0, 131, 42, 182, 0, 158]
abbrev dktX4_end_3 : List UInt8 := dkwX4_end_3 ++ dktX4_end_4
def dkwX4_end_2 : List UInt8 := [180, 0, 128, 29, 46, 154, 0, 99, 42, 43, 181, 0, 41, 42, 44, 181, 0, 44, 42, 29, 6, 96]
abbrev dktX4_end_2 : List UInt8 := dkwX4_end_2 ++ dktX4_end_3
def dkwX4_end_1 : List UInt8 := [43, 29, 4, 96, 182, 1, 78, 83, 43, 89, 180, 0, 73, 4, 96, 181, 0, 73, 167, 0, 108, 43]
abbrev dktX4_end_1 : List UInt8 := dkwX4_end_1 ++ dktX4_end_2
def dkwX4_end_0 : List UInt8 := [43, 180, 1, 94, 62, 43, 180, 0, 128, 29, 46, 5, 160, 0, 33, 43, 180, 1, 88, 43, 180, 0, 73, 42]
abbrev dktX4_end_0 : List UInt8 := dkwX4_end_0 ++ dktX4_end_1
theorem dksX4_end_0 : cX4_end.data.toList.drop 0 = dktX4_end_0 := by decide +kernel
theorem dksX4_end_1 : cX4_end.data.toList.drop 24 = dktX4_end_1 := dk_seg dksX4_end_0 24 rfl rfl
theorem dksX4_end_2 : cX4_end.data.toList.drop 46 = dktX4_end_2 := dk_seg dksX4_end_1 22 rfl rfl
theorem dksX4_end_3 : cX4_end.data.toList.drop 68 = dktX4_end_3 := dk_seg dksX4_end_2 22 rfl rfl
theorem dksX4_end_4 : cX4_end.data.toList.drop 91 = dktX4_end_4 := dk_seg dksX4_end_3 23 rfl rfl
theorem dksX4_end_5 : cX4_end.data.toList.drop 113 = dktX4_end_5 := dk_seg dksX4_end_4 22 rfl rfl
theorem dksX4_end_6 : cX4_end.data.toList.drop 136 = dktX4_end_6 := dk_seg dksX4_end_5 23 rfl rfl
theorem dX4_end_0 : decode cX4_end 0 = .ok (.aload_n 1, 1) := dk_43 (dk_at dksX4_end_0 0 rfl rfl)
theorem dX4_end_1 : decode cX4_end 1 = .ok (.getfield 350, 3) := dk_180 1 94 (dk_at dksX4_end_0 1 rfl rfl)
theorem dX4_end_4 : decode cX4_end 4 = .ok (.istore_n 3, 1) := dk_62 (dk_at dksX4_end_0 4 rfl rfl)
theorem dX4_end_5 : decode cX4_end 5 = .ok (.aload_n 1, 1) := dk_43 (dk_at dksX4_end_0 5 rfl rfl)
theorem dX4_end_6 : decode cX4_end 6 = .ok (.getfield 128, 3) := dk_180 0 128 (dk_at dksX4_end_0 6 rfl rfl)
theorem dX4_end_9 : decode cX4_end 9 = .ok (.iload_n 3, 1) := dk_29 (dk_at dksX4_end_0 9 rfl rfl)
theorem dX4_end_10 : decode cX4_end 10 = .ok (.iaload, 1) := dk_46 (dk_at dksX4_end_0 10 rfl rfl)
theorem dX4_end_11 : decode cX4_end 11 = .ok (.iconst 2, 1) := dk_5 (dk_at dksX4_end_0 11 rfl rfl)
theorem dX4_end_12 : decode cX4_end 12 = .ok (.if_icmp .ne 33, 3) := dk_160 0 33 (dk_at dksX4_end_0 12 rfl rfl)
theorem dX4_end_15 : decode cX4_end 15 = .ok (.aload_n 1, 1) := dk_43 (dk_at dksX4_end_0 15 rfl rfl)
theorem dX4_end_16 : decode cX4_end 16 = .ok (.getfield 344, 3) := dk_180 1 88 (dk_at dksX4_end_0 16 rfl rfl)
theorem dX4_end_19 : decode cX4_end 19 = .ok (.aload_n 1, 1) := dk_43 (dk_at dksX4_end_0 19 rfl rfl)
theorem dX4_end_20 : decode cX4_end 20 = .ok (.getfield 73, 3) := dk_180 0 73 (dk_at dksX4_end_0 20 rfl rfl)
theorem dX4_end_23 : decode cX4_end 23 = .ok (.aload_n 0, 1) := dk_42 (dk_at dksX4_end_0 23 rfl rfl)
theorem dX4_end_24 : decode cX4_end 24 = .ok (.aload_n 1, 1) := dk_43 (dk_at dksX4_end_1 0 rfl rfl)
theorem dX4_end_25 : decode cX4_end 25 = .ok (.iload_n 3, 1) := dk_29 (dk_at dksX4_end_1 1 rfl rfl)
theorem dX4_end_26 : decode cX4_end 26 = .ok (.iconst 1, 1) := dk_4 (dk_at dksX4_end_1 2 rfl rfl)
theorem dX4_end_27 : decode cX4_end 27 = .ok (.iadd, 1) := dk_96 (dk_at dksX4_end_1 3 rfl rfl)
theorem dX4_end_28 : decode cX4_end 28 = .ok (.invokevirtual 334, 3) := dk_182 1 78 (dk_at dksX4_end_1 4 rfl rfl)
theorem dX4_end_31 : decode cX4_end 31 = .ok (.aastore, 1) := dk_83 (dk_at dksX4_end_1 7 rfl rfl)
theorem dX4_end_32 : decode cX4_end 32 = .ok (.aload_n 1, 1) := dk_43 (dk_at dksX4_end_1 8 rfl rfl)
theorem dX4_end_33 : decode cX4_end 33 = .ok (.dup, 1) := dk_89 (dk_at dksX4_end_1 9 rfl rfl)
theorem dX4_end_34 : decode cX4_end 34 = .ok (.getfield 73, 3) := dk_180 0 73 (dk_at dksX4_end_1 10 rfl rfl)
theorem dX4_end_37 : decode cX4_end 37 = .ok (.iconst 1, 1) := dk_4 (dk_at dksX4_end_1 13 rfl rfl)
theorem dX4_end_38 : decode cX4_end 38 = .ok (.iadd, 1) := dk_96 (dk_at dksX4_end_1 14 rfl rfl)
theorem dX4_end_39 : decode cX4_end 39 = .ok (.putfield 73, 3) := dk_181 0 73 (dk_at dksX4_end_1 15 rfl rfl)
theorem dX4_end_42 : decode cX4_end 42 = .ok (.goto 108, 3) := dk_167 0 108 (dk_at dksX4_end_1 18 rfl rfl)
theorem dX4_end_45 : decode cX4_end 45 = .ok (.aload_n 1, 1) := dk_43 (dk_at dksX4_end_1 21 rfl rfl)
theorem dX4_end_46 : decode cX4_end 46 = .ok (.getfield 128, 3) := dk_180 0 128 (dk_at dksX4_end_2 0 rfl rfl)
theorem dX4_end_49 : decode cX4_end 49 = .ok (.iload_n 3, 1) := dk_29 (dk_at dksX4_end_2 3 rfl rfl)
theorem dX4_end_50 : decode cX4_end 50 = .ok (.iaload, 1) := dk_46 (dk_at dksX4_end_2 4 rfl rfl)
theorem dX4_end_51 : decode cX4_end 51 = .ok (.ifCond .ne 99, 3) := dk_154 0 99 (dk_at dksX4_end_2 5 rfl rfl)
theorem dX4_end_54 : decode cX4_end 54 = .ok (.aload_n 0, 1) := dk_42 (dk_at dksX4_end_2 8 rfl rfl)
theorem dX4_end_55 : decode cX4_end 55 = .ok (.aload_n 1, 1) := dk_43 (dk_at dksX4_end_2 9 rfl rfl)
theorem dX4_end_56 : decode cX4_end 56 = .ok (.putfield 41, 3) := dk_181 0 41 (dk_at dksX4_end_2 10 rfl rfl)
theorem dX4_end_59 : decode cX4_end 59 = .ok (.aload_n 0, 1) := dk_42 (dk_at dksX4_end_2 13 rfl rfl)
theorem dX4_end_60 : decode cX4_end 60 = .ok (.aload_n 2, 1) := dk_44 (dk_at dksX4_end_2 14 rfl rfl)
theorem dX4_end_61 : decode cX4_end 61 = .ok (.putfield 44, 3) := dk_181 0 44 (dk_at dksX4_end_2 15 rfl rfl)
theorem dX4_end_64 : decode cX4_end 64 = .ok (.aload_n 0, 1) := dk_42 (dk_at dksX4_end_2 18 rfl rfl)
theorem dX4_end_65 : decode cX4_end 65 = .ok (.iload_n 3, 1) := dk_29 (dk_at dksX4_end_2 19 rfl rfl)
theorem dX4_end_66 : decode cX4_end 66 = .ok (.iconst 3, 1) := dk_6 (dk_at dksX4_end_2 20 rfl rfl)
theorem dX4_end_67 : decode cX4_end 67 = .ok (.iadd, 1) := dk_96 (dk_at dksX4_end_2 21 rfl rfl)
theorem dX4_end_68 : decode cX4_end 68 = .ok (.putfield 131, 3) := dk_181 0 131 (dk_at dksX4_end_3 0 rfl rfl)
theorem dX4_end_71 : decode cX4_end 71 = .ok (.aload_n 0, 1) := dk_42 (dk_at dksX4_end_3 3 rfl rfl)
theorem dX4_end_72 : decode cX4_end 72 = .ok (.invokevirtual 158, 3) := dk_182 0 158 (dk_at dksX4_end_3 4 rfl rfl)
theorem dX4_end_75 : decode cX4_end 75 = .ok (.istore 4, 2) := dk_54 4 (dk_at dksX4_end_3 7 rfl rfl)
theorem dX4_end_77 : decode cX4_end 77 = .ok (.aload_n 0, 1) := dk_42 (dk_at dksX4_end_3 9 rfl rfl)
theorem dX4_end_78 : decode cX4_end 78 = .ok (.dup, 1) := dk_89 (dk_at dksX4_end_3 10 rfl rfl)
theorem dX4_end_79 : decode cX4_end 79 = .ok (.getfield 131, 3) := dk_180 0 131 (dk_at dksX4_end_3 11 rfl rfl)
theorem dX4_end_82 : decode cX4_end 82 = .ok (.iconst 1, 1) := dk_4 (dk_at dksX4_end_3 14 rfl rfl)
theorem dX4_end_83 : decode cX4_end 83 = .ok (.iadd, 1) := dk_96 (dk_at dksX4_end_3 15 rfl rfl)
theorem dX4_end_84 : decode cX4_end 84 = .ok (.putfield 131, 3) := dk_181 0 131 (dk_at dksX4_end_3 16 rfl rfl)
theorem dX4_end_87 : decode cX4_end 87 = .ok (.aload_n 0, 1) := dk_42 (dk_at dksX4_end_3 19 rfl rfl)
theorem dX4_end_88 : decode cX4_end 88 = .ok (.invokevirtual 158, 3) := dk_182 0 158 (dk_at dksX4_end_3 20 rfl rfl)
theorem dX4_end_91 : decode cX4_end 91 = .ok (.istore 5, 2) := dk_54 5 (dk_at dksX4_end_4 0 rfl rfl)
theorem dX4_end_93 : decode cX4_end 93 = .ok (.aload_n 2, 1) := dk_44 (dk_at dksX4_end_4 2 rfl rfl)
theorem dX4_end_94 : decode cX4_end 94 = .ok (.getfield 85, 3) := dk_180 0 85 (dk_at dksX4_end_4 3 rfl rfl)
theorem dX4_end_97 : decode cX4_end 97 = .ok (.aload_n 1, 1) := dk_43 (dk_at dksX4_end_4 6 rfl rfl)
theorem dX4_end_98 : decode cX4_end 98 = .ok (.getfield 66, 3) := dk_180 0 66 (dk_at dksX4_end_4 7 rfl rfl)
theorem dX4_end_101 : decode cX4_end 101 = .ok (.iload 4, 2) := dk_21 4 (dk_at dksX4_end_4 10 rfl rfl)
theorem dX4_end_103 : decode cX4_end 103 = .ok (.i2l, 1) := dk_133 (dk_at dksX4_end_4 12 rfl rfl)
theorem dX4_end_104 : decode cX4_end 104 = .ok (.invokestatic 182, 3) := dk_184 0 182 (dk_at dksX4_end_4 13 rfl rfl)
theorem dX4_end_107 : decode cX4_end 107 = .ok (.iastore, 1) := dk_79 (dk_at dksX4_end_4 16 rfl rfl)
theorem dX4_end_108 : decode cX4_end 108 = .ok (.aload_n 2, 1) := dk_44 (dk_at dksX4_end_4 17 rfl rfl)
theorem dX4_end_109 : decode cX4_end 109 = .ok (.getfield 88, 3) := dk_180 0 88 (dk_at dksX4_end_4 18 rfl rfl)
theorem dX4_end_112 : decode cX4_end 112 = .ok (.aload_n 1, 1) := dk_43 (dk_at dksX4_end_4 21 rfl rfl)
theorem dX4_end_113 : decode cX4_end 113 = .ok (.getfield 66, 3) := dk_180 0 66 (dk_at dksX4_end_5 0 rfl rfl)
theorem dX4_end_116 : decode cX4_end 116 = .ok (.iload 5, 2) := dk_21 5 (dk_at dksX4_end_5 3 rfl rfl)
theorem dX4_end_118 : decode cX4_end 118 = .ok (.i2l, 1) := dk_133 (dk_at dksX4_end_5 5 rfl rfl)
theorem dX4_end_119 : decode cX4_end 119 = .ok (.invokestatic 182, 3) := dk_184 0 182 (dk_at dksX4_end_5 6 rfl rfl)
theorem dX4_end_122 : decode cX4_end 122 = .ok (.iastore, 1) := dk_79 (dk_at dksX4_end_5 9 rfl rfl)
theorem dX4_end_123 : decode cX4_end 123 = .ok (.aload_n 1, 1) := dk_43 (dk_at dksX4_end_5 10 rfl rfl)
theorem dX4_end_124 : decode cX4_end 124 = .ok (.getfield 338, 3) := dk_180 1 82 (dk_at dksX4_end_5 11 rfl rfl)
theorem dX4_end_127 : decode cX4_end 127 = .ok (.aload_n 1, 1) := dk_43 (dk_at dksX4_end_5 14 rfl rfl)
theorem dX4_end_128 : decode cX4_end 128 = .ok (.getfield 66, 3) := dk_180 0 66 (dk_at dksX4_end_5 15 rfl rfl)
theorem dX4_end_131 : decode cX4_end 131 = .ok (.aload_n 0, 1) := dk_42 (dk_at dksX4_end_5 18 rfl rfl)
theorem dX4_end_132 : decode cX4_end 132 = .ok (.aload_n 1, 1) := dk_43 (dk_at dksX4_end_5 19 rfl rfl)
theorem dX4_end_133 : decode cX4_end 133 = .ok (.iload_n 3, 1) := dk_29 (dk_at dksX4_end_5 20 rfl rfl)
theorem dX4_end_134 : decode cX4_end 134 = .ok (.iconst 1, 1) := dk_4 (dk_at dksX4_end_5 21 rfl rfl)
theorem dX4_end_135 : decode cX4_end 135 = .ok (.iadd, 1) := dk_96 (dk_at dksX4_end_5 22 rfl rfl)
theorem dX4_end_136 : decode cX4_end 136 = .ok (.invokevirtual 334, 3) := dk_182 1 78 (dk_at dksX4_end_6 0 rfl rfl)
theorem dX4_end_139 : decode cX4_end 139 = .ok (.aastore, 1) := dk_83 (dk_at dksX4_end_6 3 rfl rfl)
theorem dX4_end_140 : decode cX4_end 140 = .ok (.aload_n 1, 1) := dk_43 (dk_at dksX4_end_6 4 rfl rfl)
theorem dX4_end_141 : decode cX4_end 141 = .ok (.dup, 1) := dk_89 (dk_at dksX4_end_6 5 rfl rfl)
theorem dX4_end_142 : decode cX4_end 142 = .ok (.getfield 66, 3) := dk_180 0 66 (dk_at dksX4_end_6 6 rfl rfl)
theorem dX4_end_145 : decode cX4_end 145 = .ok (.iconst 1, 1) := dk_4 (dk_at dksX4_end_6 9 rfl rfl)
theorem dX4_end_146 : decode cX4_end 146 = .ok (.iadd, 1) := dk_96 (dk_at dksX4_end_6 10 rfl rfl)
theorem dX4_end_147 : decode cX4_end 147 = .ok (.putfield 66, 3) := dk_181 0 66 (dk_at dksX4_end_6 11 rfl rfl)
theorem dX4_end_150 : decode cX4_end 150 = .ok (.return_, 1) := dk_177 (dk_at dksX4_end_6 14 rfl rfl)
abbrev cX4_sum : ByteArray := prog_40_method_25_code
def yX4_sum : MethodName := ⟨RX4, "sum", "()I"⟩
def dkwX4_sum_3 : List UInt8 := [160, 0, 9, 27, 29, 96, 167, 0, 6, 27, 29, 100, 60, 167, 255, 178, 27, 172]
abbrev dktX4_sum_3 : List UInt8 := dkwX4_sum_3 ++ []
def dkwX4_sum_2 : List UInt8 := [180, 0, 131, 46, 61, 42, 89, 180, 0, 131, 4, 96, 181, 0, 131, 42, 182, 0, 161, 62, 28, 16, 28]
abbrev dktX4_sum_2 : List UInt8 := dkwX4_sum_2 ++ dktX4_sum_3
def dkwX4_sum_1 : List UInt8 := [180, 0, 41, 180, 0, 128, 42, 180, 0, 131, 46, 16, 29, 160, 0, 50, 42, 180, 0, 41, 180, 0, 128, 42]
abbrev dktX4_sum_1 : List UInt8 := dkwX4_sum_1 ++ dktX4_sum_2
def dkwX4_sum_0 : List UInt8 := [42, 182, 0, 161, 60, 42, 180, 0, 41, 180, 0, 128, 42, 180, 0, 131, 46, 16, 28, 159, 0, 20, 42]
abbrev dktX4_sum_0 : List UInt8 := dkwX4_sum_0 ++ dktX4_sum_1
theorem dksX4_sum_0 : cX4_sum.data.toList.drop 0 = dktX4_sum_0 := by decide +kernel
theorem dksX4_sum_1 : cX4_sum.data.toList.drop 23 = dktX4_sum_1 := dk_seg dksX4_sum_0 23 rfl rfl
theorem dksX4_sum_2 : cX4_sum.data.toList.drop 47 = dktX4_sum_2 := dk_seg dksX4_sum_1 24 rfl rfl
theorem dksX4_sum_3 : cX4_sum.data.toList.drop 70 = dktX4_sum_3 := dk_seg dksX4_sum_2 23 rfl rfl
theorem dX4_sum_0 : decode cX4_sum 0 = .ok (.aload_n 0, 1) := dk_42 (dk_at dksX4_sum_0 0 rfl rfl)
theorem dX4_sum_1 : decode cX4_sum 1 = .ok (.invokevirtual 161, 3) := dk_182 0 161 (dk_at dksX4_sum_0 1 rfl rfl)
theorem dX4_sum_4 : decode cX4_sum 4 = .ok (.istore_n 1, 1) := dk_60 (dk_at dksX4_sum_0 4 rfl rfl)
theorem dX4_sum_5 : decode cX4_sum 5 = .ok (.aload_n 0, 1) := dk_42 (dk_at dksX4_sum_0 5 rfl rfl)
theorem dX4_sum_6 : decode cX4_sum 6 = .ok (.getfield 41, 3) := dk_180 0 41 (dk_at dksX4_sum_0 6 rfl rfl)
theorem dX4_sum_9 : decode cX4_sum 9 = .ok (.getfield 128, 3) := dk_180 0 128 (dk_at dksX4_sum_0 9 rfl rfl)
theorem dX4_sum_12 : decode cX4_sum 12 = .ok (.aload_n 0, 1) := dk_42 (dk_at dksX4_sum_0 12 rfl rfl)
theorem dX4_sum_13 : decode cX4_sum 13 = .ok (.getfield 131, 3) := dk_180 0 131 (dk_at dksX4_sum_0 13 rfl rfl)
theorem dX4_sum_16 : decode cX4_sum 16 = .ok (.iaload, 1) := dk_46 (dk_at dksX4_sum_0 16 rfl rfl)
theorem dX4_sum_17 : decode cX4_sum 17 = .ok (.bipush 28, 2) := dk_16 28 (dk_at dksX4_sum_0 17 rfl rfl)
theorem dX4_sum_19 : decode cX4_sum 19 = .ok (.if_icmp .eq 20, 3) := dk_159 0 20 (dk_at dksX4_sum_0 19 rfl rfl)
theorem dX4_sum_22 : decode cX4_sum 22 = .ok (.aload_n 0, 1) := dk_42 (dk_at dksX4_sum_0 22 rfl rfl)
theorem dX4_sum_23 : decode cX4_sum 23 = .ok (.getfield 41, 3) := dk_180 0 41 (dk_at dksX4_sum_1 0 rfl rfl)
theorem dX4_sum_26 : decode cX4_sum 26 = .ok (.getfield 128, 3) := dk_180 0 128 (dk_at dksX4_sum_1 3 rfl rfl)
theorem dX4_sum_29 : decode cX4_sum 29 = .ok (.aload_n 0, 1) := dk_42 (dk_at dksX4_sum_1 6 rfl rfl)
theorem dX4_sum_30 : decode cX4_sum 30 = .ok (.getfield 131, 3) := dk_180 0 131 (dk_at dksX4_sum_1 7 rfl rfl)
theorem dX4_sum_33 : decode cX4_sum 33 = .ok (.iaload, 1) := dk_46 (dk_at dksX4_sum_1 10 rfl rfl)
theorem dX4_sum_34 : decode cX4_sum 34 = .ok (.bipush 29, 2) := dk_16 29 (dk_at dksX4_sum_1 11 rfl rfl)
theorem dX4_sum_36 : decode cX4_sum 36 = .ok (.if_icmp .ne 50, 3) := dk_160 0 50 (dk_at dksX4_sum_1 13 rfl rfl)
theorem dX4_sum_39 : decode cX4_sum 39 = .ok (.aload_n 0, 1) := dk_42 (dk_at dksX4_sum_1 16 rfl rfl)
theorem dX4_sum_40 : decode cX4_sum 40 = .ok (.getfield 41, 3) := dk_180 0 41 (dk_at dksX4_sum_1 17 rfl rfl)
theorem dX4_sum_43 : decode cX4_sum 43 = .ok (.getfield 128, 3) := dk_180 0 128 (dk_at dksX4_sum_1 20 rfl rfl)
theorem dX4_sum_46 : decode cX4_sum 46 = .ok (.aload_n 0, 1) := dk_42 (dk_at dksX4_sum_1 23 rfl rfl)
theorem dX4_sum_47 : decode cX4_sum 47 = .ok (.getfield 131, 3) := dk_180 0 131 (dk_at dksX4_sum_2 0 rfl rfl)
theorem dX4_sum_50 : decode cX4_sum 50 = .ok (.iaload, 1) := dk_46 (dk_at dksX4_sum_2 3 rfl rfl)
theorem dX4_sum_51 : decode cX4_sum 51 = .ok (.istore_n 2, 1) := dk_61 (dk_at dksX4_sum_2 4 rfl rfl)
theorem dX4_sum_52 : decode cX4_sum 52 = .ok (.aload_n 0, 1) := dk_42 (dk_at dksX4_sum_2 5 rfl rfl)
theorem dX4_sum_53 : decode cX4_sum 53 = .ok (.dup, 1) := dk_89 (dk_at dksX4_sum_2 6 rfl rfl)
theorem dX4_sum_54 : decode cX4_sum 54 = .ok (.getfield 131, 3) := dk_180 0 131 (dk_at dksX4_sum_2 7 rfl rfl)
theorem dX4_sum_57 : decode cX4_sum 57 = .ok (.iconst 1, 1) := dk_4 (dk_at dksX4_sum_2 10 rfl rfl)
theorem dX4_sum_58 : decode cX4_sum 58 = .ok (.iadd, 1) := dk_96 (dk_at dksX4_sum_2 11 rfl rfl)
theorem dX4_sum_59 : decode cX4_sum 59 = .ok (.putfield 131, 3) := dk_181 0 131 (dk_at dksX4_sum_2 12 rfl rfl)
theorem dX4_sum_62 : decode cX4_sum 62 = .ok (.aload_n 0, 1) := dk_42 (dk_at dksX4_sum_2 15 rfl rfl)
theorem dX4_sum_63 : decode cX4_sum 63 = .ok (.invokevirtual 161, 3) := dk_182 0 161 (dk_at dksX4_sum_2 16 rfl rfl)
theorem dX4_sum_66 : decode cX4_sum 66 = .ok (.istore_n 3, 1) := dk_62 (dk_at dksX4_sum_2 19 rfl rfl)
theorem dX4_sum_67 : decode cX4_sum 67 = .ok (.iload_n 2, 1) := dk_28 (dk_at dksX4_sum_2 20 rfl rfl)
theorem dX4_sum_68 : decode cX4_sum 68 = .ok (.bipush 28, 2) := dk_16 28 (dk_at dksX4_sum_2 21 rfl rfl)
theorem dX4_sum_70 : decode cX4_sum 70 = .ok (.if_icmp .ne 9, 3) := dk_160 0 9 (dk_at dksX4_sum_3 0 rfl rfl)
theorem dX4_sum_73 : decode cX4_sum 73 = .ok (.iload_n 1, 1) := dk_27 (dk_at dksX4_sum_3 3 rfl rfl)
theorem dX4_sum_74 : decode cX4_sum 74 = .ok (.iload_n 3, 1) := dk_29 (dk_at dksX4_sum_3 4 rfl rfl)
theorem dX4_sum_75 : decode cX4_sum 75 = .ok (.iadd, 1) := dk_96 (dk_at dksX4_sum_3 5 rfl rfl)
theorem dX4_sum_76 : decode cX4_sum 76 = .ok (.goto 6, 3) := dk_167 0 6 (dk_at dksX4_sum_3 6 rfl rfl)
theorem dX4_sum_79 : decode cX4_sum 79 = .ok (.iload_n 1, 1) := dk_27 (dk_at dksX4_sum_3 9 rfl rfl)
theorem dX4_sum_80 : decode cX4_sum 80 = .ok (.iload_n 3, 1) := dk_29 (dk_at dksX4_sum_3 10 rfl rfl)
theorem dX4_sum_81 : decode cX4_sum 81 = .ok (.isub, 1) := dk_100 (dk_at dksX4_sum_3 11 rfl rfl)
theorem dX4_sum_82 : decode cX4_sum 82 = .ok (.istore_n 1, 1) := dk_60 (dk_at dksX4_sum_3 12 rfl rfl)
theorem dX4_sum_83 : decode cX4_sum 83 = .ok (.goto (-78), 3) := dk_167 255 178 (dk_at dksX4_sum_3 13 rfl rfl)
theorem dX4_sum_86 : decode cX4_sum 86 = .ok (.iload_n 1, 1) := dk_27 (dk_at dksX4_sum_3 16 rfl rfl)
theorem dX4_sum_87 : decode cX4_sum 87 = .ok (.ireturn, 1) := dk_172 (dk_at dksX4_sum_3 17 rfl rfl)
abbrev cX4_product : ByteArray := prog_40_method_26_code
def yX4_product : MethodName := ⟨RX4, "product", "()I"⟩
def dkwX4_product_4 : List UInt8 := [27, 172]
abbrev dktX4_product_4 : List UInt8 := dkwX4_product_4 ++ []
def dkwX4_product_3 : List UInt8 := [160, 0, 9, 27, 29, 104, 167, 0, 14, 29, 154, 0, 7, 3, 167, 0, 6, 27, 29, 108, 60, 167, 255, 170]
abbrev dktX4_product_3 : List UInt8 := dkwX4_product_3 ++ dktX4_product_4
def dkwX4_product_2 : List UInt8 := [180, 0, 131, 46, 61, 42, 89, 180, 0, 131, 4, 96, 181, 0, 131, 42, 182, 0, 164, 62, 28, 16, 30]
abbrev dktX4_product_2 : List UInt8 := dkwX4_product_2 ++ dktX4_product_3
def dkwX4_product_1 : List UInt8 := [180, 0, 41, 180, 0, 128, 42, 180, 0, 131, 46, 16, 31, 160, 0, 58, 42, 180, 0, 41, 180, 0, 128, 42]
abbrev dktX4_product_1 : List UInt8 := dkwX4_product_1 ++ dktX4_product_2
def dkwX4_product_0 : List UInt8 := [42, 182, 0, 164, 60, 42, 180, 0, 41, 180, 0, 128, 42, 180, 0, 131, 46, 16, 30, 159, 0, 20, 42]
abbrev dktX4_product_0 : List UInt8 := dkwX4_product_0 ++ dktX4_product_1
theorem dksX4_product_0 : cX4_product.data.toList.drop 0 = dktX4_product_0 := by decide +kernel
theorem dksX4_product_1 : cX4_product.data.toList.drop 23 = dktX4_product_1 := dk_seg dksX4_product_0 23 rfl rfl
theorem dksX4_product_2 : cX4_product.data.toList.drop 47 = dktX4_product_2 := dk_seg dksX4_product_1 24 rfl rfl
theorem dksX4_product_3 : cX4_product.data.toList.drop 70 = dktX4_product_3 := dk_seg dksX4_product_2 23 rfl rfl
theorem dksX4_product_4 : cX4_product.data.toList.drop 94 = dktX4_product_4 := dk_seg dksX4_product_3 24 rfl rfl
theorem dX4_product_0 : decode cX4_product 0 = .ok (.aload_n 0, 1) := dk_42 (dk_at dksX4_product_0 0 rfl rfl)
theorem dX4_product_1 : decode cX4_product 1 = .ok (.invokevirtual 164, 3) := dk_182 0 164 (dk_at dksX4_product_0 1 rfl rfl)
theorem dX4_product_4 : decode cX4_product 4 = .ok (.istore_n 1, 1) := dk_60 (dk_at dksX4_product_0 4 rfl rfl)
theorem dX4_product_5 : decode cX4_product 5 = .ok (.aload_n 0, 1) := dk_42 (dk_at dksX4_product_0 5 rfl rfl)
theorem dX4_product_6 : decode cX4_product 6 = .ok (.getfield 41, 3) := dk_180 0 41 (dk_at dksX4_product_0 6 rfl rfl)
theorem dX4_product_9 : decode cX4_product 9 = .ok (.getfield 128, 3) := dk_180 0 128 (dk_at dksX4_product_0 9 rfl rfl)
theorem dX4_product_12 : decode cX4_product 12 = .ok (.aload_n 0, 1) := dk_42 (dk_at dksX4_product_0 12 rfl rfl)
theorem dX4_product_13 : decode cX4_product 13 = .ok (.getfield 131, 3) := dk_180 0 131 (dk_at dksX4_product_0 13 rfl rfl)
theorem dX4_product_16 : decode cX4_product 16 = .ok (.iaload, 1) := dk_46 (dk_at dksX4_product_0 16 rfl rfl)
theorem dX4_product_17 : decode cX4_product 17 = .ok (.bipush 30, 2) := dk_16 30 (dk_at dksX4_product_0 17 rfl rfl)
theorem dX4_product_19 : decode cX4_product 19 = .ok (.if_icmp .eq 20, 3) := dk_159 0 20 (dk_at dksX4_product_0 19 rfl rfl)
theorem dX4_product_22 : decode cX4_product 22 = .ok (.aload_n 0, 1) := dk_42 (dk_at dksX4_product_0 22 rfl rfl)
theorem dX4_product_23 : decode cX4_product 23 = .ok (.getfield 41, 3) := dk_180 0 41 (dk_at dksX4_product_1 0 rfl rfl)
theorem dX4_product_26 : decode cX4_product 26 = .ok (.getfield 128, 3) := dk_180 0 128 (dk_at dksX4_product_1 3 rfl rfl)
theorem dX4_product_29 : decode cX4_product 29 = .ok (.aload_n 0, 1) := dk_42 (dk_at dksX4_product_1 6 rfl rfl)
theorem dX4_product_30 : decode cX4_product 30 = .ok (.getfield 131, 3) := dk_180 0 131 (dk_at dksX4_product_1 7 rfl rfl)
theorem dX4_product_33 : decode cX4_product 33 = .ok (.iaload, 1) := dk_46 (dk_at dksX4_product_1 10 rfl rfl)
theorem dX4_product_34 : decode cX4_product 34 = .ok (.bipush 31, 2) := dk_16 31 (dk_at dksX4_product_1 11 rfl rfl)
theorem dX4_product_36 : decode cX4_product 36 = .ok (.if_icmp .ne 58, 3) := dk_160 0 58 (dk_at dksX4_product_1 13 rfl rfl)
theorem dX4_product_39 : decode cX4_product 39 = .ok (.aload_n 0, 1) := dk_42 (dk_at dksX4_product_1 16 rfl rfl)
theorem dX4_product_40 : decode cX4_product 40 = .ok (.getfield 41, 3) := dk_180 0 41 (dk_at dksX4_product_1 17 rfl rfl)
theorem dX4_product_43 : decode cX4_product 43 = .ok (.getfield 128, 3) := dk_180 0 128 (dk_at dksX4_product_1 20 rfl rfl)
theorem dX4_product_46 : decode cX4_product 46 = .ok (.aload_n 0, 1) := dk_42 (dk_at dksX4_product_1 23 rfl rfl)
theorem dX4_product_47 : decode cX4_product 47 = .ok (.getfield 131, 3) := dk_180 0 131 (dk_at dksX4_product_2 0 rfl rfl)
theorem dX4_product_50 : decode cX4_product 50 = .ok (.iaload, 1) := dk_46 (dk_at dksX4_product_2 3 rfl rfl)
theorem dX4_product_51 : decode cX4_product 51 = .ok (.istore_n 2, 1) := dk_61 (dk_at dksX4_product_2 4 rfl rfl)
theorem dX4_product_52 : decode cX4_product 52 = .ok (.aload_n 0, 1) := dk_42 (dk_at dksX4_product_2 5 rfl rfl)
theorem dX4_product_53 : decode cX4_product 53 = .ok (.dup, 1) := dk_89 (dk_at dksX4_product_2 6 rfl rfl)
theorem dX4_product_54 : decode cX4_product 54 = .ok (.getfield 131, 3) := dk_180 0 131 (dk_at dksX4_product_2 7 rfl rfl)
theorem dX4_product_57 : decode cX4_product 57 = .ok (.iconst 1, 1) := dk_4 (dk_at dksX4_product_2 10 rfl rfl)
theorem dX4_product_58 : decode cX4_product 58 = .ok (.iadd, 1) := dk_96 (dk_at dksX4_product_2 11 rfl rfl)
theorem dX4_product_59 : decode cX4_product 59 = .ok (.putfield 131, 3) := dk_181 0 131 (dk_at dksX4_product_2 12 rfl rfl)
theorem dX4_product_62 : decode cX4_product 62 = .ok (.aload_n 0, 1) := dk_42 (dk_at dksX4_product_2 15 rfl rfl)
theorem dX4_product_63 : decode cX4_product 63 = .ok (.invokevirtual 164, 3) := dk_182 0 164 (dk_at dksX4_product_2 16 rfl rfl)
theorem dX4_product_66 : decode cX4_product 66 = .ok (.istore_n 3, 1) := dk_62 (dk_at dksX4_product_2 19 rfl rfl)
theorem dX4_product_67 : decode cX4_product 67 = .ok (.iload_n 2, 1) := dk_28 (dk_at dksX4_product_2 20 rfl rfl)
theorem dX4_product_68 : decode cX4_product 68 = .ok (.bipush 30, 2) := dk_16 30 (dk_at dksX4_product_2 21 rfl rfl)
theorem dX4_product_70 : decode cX4_product 70 = .ok (.if_icmp .ne 9, 3) := dk_160 0 9 (dk_at dksX4_product_3 0 rfl rfl)
theorem dX4_product_73 : decode cX4_product 73 = .ok (.iload_n 1, 1) := dk_27 (dk_at dksX4_product_3 3 rfl rfl)
theorem dX4_product_74 : decode cX4_product 74 = .ok (.iload_n 3, 1) := dk_29 (dk_at dksX4_product_3 4 rfl rfl)
theorem dX4_product_75 : decode cX4_product 75 = .ok (.imul, 1) := dk_104 (dk_at dksX4_product_3 5 rfl rfl)
theorem dX4_product_76 : decode cX4_product 76 = .ok (.goto 14, 3) := dk_167 0 14 (dk_at dksX4_product_3 6 rfl rfl)
theorem dX4_product_79 : decode cX4_product 79 = .ok (.iload_n 3, 1) := dk_29 (dk_at dksX4_product_3 9 rfl rfl)
theorem dX4_product_80 : decode cX4_product 80 = .ok (.ifCond .ne 7, 3) := dk_154 0 7 (dk_at dksX4_product_3 10 rfl rfl)
theorem dX4_product_83 : decode cX4_product 83 = .ok (.iconst 0, 1) := dk_3 (dk_at dksX4_product_3 13 rfl rfl)
theorem dX4_product_84 : decode cX4_product 84 = .ok (.goto 6, 3) := dk_167 0 6 (dk_at dksX4_product_3 14 rfl rfl)
theorem dX4_product_87 : decode cX4_product 87 = .ok (.iload_n 1, 1) := dk_27 (dk_at dksX4_product_3 17 rfl rfl)
theorem dX4_product_88 : decode cX4_product 88 = .ok (.iload_n 3, 1) := dk_29 (dk_at dksX4_product_3 18 rfl rfl)
theorem dX4_product_89 : decode cX4_product 89 = .ok (.idiv, 1) := dk_108 (dk_at dksX4_product_3 19 rfl rfl)
theorem dX4_product_90 : decode cX4_product 90 = .ok (.istore_n 1, 1) := dk_60 (dk_at dksX4_product_3 20 rfl rfl)
theorem dX4_product_91 : decode cX4_product 91 = .ok (.goto (-86), 3) := dk_167 255 170 (dk_at dksX4_product_3 21 rfl rfl)
theorem dX4_product_94 : decode cX4_product 94 = .ok (.iload_n 1, 1) := dk_27 (dk_at dksX4_product_4 0 rfl rfl)
theorem dX4_product_95 : decode cX4_product 95 = .ok (.ireturn, 1) := dk_172 (dk_at dksX4_product_4 1 rfl rfl)
abbrev cX4_value : ByteArray := prog_40_method_27_code
def yX4_value : MethodName := ⟨RX4, "value", "()I"⟩
def dkwX4_value_8 : List UInt8 := [28, 29, 184, 0, 120, 172]
abbrev dktX4_value_8 : List UInt8 := dkwX4_value_8 ++ []
def dkwX4_value_7 : List UInt8 := [42, 89, 180, 0, 131, 4, 96, 181, 0, 131, 27, 16, 18, 160, 0, 11, 28, 29, 184, 0, 118, 167, 0, 8]
abbrev dktX4_value_7 : List UInt8 := dkwX4_value_7 ++ dktX4_value_8
def dkwX4_value_6 : List UInt8 := [96, 181, 0, 131, 42, 182, 0, 158, 61, 42, 89, 180, 0, 131, 4, 96, 181, 0, 131, 42, 182, 0, 158, 62]
abbrev dktX4_value_6 : List UInt8 := dkwX4_value_6 ++ dktX4_value_7
def dkwX4_value_5 : List UInt8 := [172, 42, 182, 0, 158, 61, 42, 89, 180, 0, 131, 4, 96, 181, 0, 131, 28, 172, 42, 89, 180, 0, 131, 4]
abbrev dktX4_value_5 : List UInt8 := dkwX4_value_5 ++ dktX4_value_6
def dkwX4_value_4 : List UInt8 := [172, 42, 42, 182, 0, 151, 182, 0, 167, 172, 42, 182, 0, 151, 61, 42, 28, 42, 182, 0, 151, 182, 0, 170]
abbrev dktX4_value_4 : List UInt8 := dkwX4_value_4 ++ dktX4_value_5
def dkwX4_value_3 : List UInt8 := [180, 0, 44, 180, 0, 85, 42, 182, 0, 151, 46, 172, 42, 180, 0, 44, 180, 0, 88, 42, 182, 0, 151, 46]
abbrev dktX4_value_3 : List UInt8 := dkwX4_value_3 ++ dktX4_value_4
def dkwX4_value_2 : List UInt8 := [42, 182, 0, 164, 116, 172, 42, 180, 0, 41, 180, 0, 134, 42, 180, 0, 131, 4, 100, 46, 172, 42]
abbrev dktX4_value_2 : List UInt8 := dkwX4_value_2 ++ dktX4_value_3
def dkwX4_value_1 : List UInt8 := [170, 0, 0, 0, 0, 0, 0, 184, 0, 0, 0, 10, 0, 0, 0, 29, 0, 0, 0, 117, 0, 0, 0, 130, 0, 0, 0, 143, 0, 0, 0, 152, 0, 0, 0, 184, 0, 0, 0, 184, 0, 0, 0, 184, 0, 0, 0, 184, 0, 0, 0, 184, 0, 0, 0, 184, 0, 0, 0, 184, 0, 0, 0, 102, 0, 0, 0, 184, 0, 0, 0, 184, 0, 0, 0, 167, 0, 0, 0, 184, 0, 0, 0, 184, 0, 0, 0, 184, 0, 0, 0, 184, 0, 0, 0, 96]
abbrev dktX4_value_1 : List UInt8 := dkwX4_value_1 ++ dktX4_value_2
def dkwX4_value_0 : List UInt8 := [42, 180, 0, 41, 180, 0, 128, 42, 180, 0, 131, 46, 60, 42, 89, 180, 0, 131, 4, 96, 181, 0, 131, 27]
abbrev dktX4_value_0 : List UInt8 := dkwX4_value_0 ++ dktX4_value_1
theorem dksX4_value_0 : cX4_value.data.toList.drop 0 = dktX4_value_0 := by decide +kernel
theorem dksX4_value_1 : cX4_value.data.toList.drop 24 = dktX4_value_1 := dk_seg dksX4_value_0 24 rfl rfl
theorem dksX4_value_2 : cX4_value.data.toList.drop 120 = dktX4_value_2 := dk_seg dksX4_value_1 96 rfl rfl
theorem dksX4_value_3 : cX4_value.data.toList.drop 142 = dktX4_value_3 := dk_seg dksX4_value_2 22 rfl rfl
theorem dksX4_value_4 : cX4_value.data.toList.drop 166 = dktX4_value_4 := dk_seg dksX4_value_3 24 rfl rfl
theorem dksX4_value_5 : cX4_value.data.toList.drop 190 = dktX4_value_5 := dk_seg dksX4_value_4 24 rfl rfl
theorem dksX4_value_6 : cX4_value.data.toList.drop 214 = dktX4_value_6 := dk_seg dksX4_value_5 24 rfl rfl
theorem dksX4_value_7 : cX4_value.data.toList.drop 238 = dktX4_value_7 := dk_seg dksX4_value_6 24 rfl rfl
theorem dksX4_value_8 : cX4_value.data.toList.drop 262 = dktX4_value_8 := dk_seg dksX4_value_7 24 rfl rfl
theorem dX4_value_0 : decode cX4_value 0 = .ok (.aload_n 0, 1) := dk_42 (dk_at dksX4_value_0 0 rfl rfl)
theorem dX4_value_1 : decode cX4_value 1 = .ok (.getfield 41, 3) := dk_180 0 41 (dk_at dksX4_value_0 1 rfl rfl)
theorem dX4_value_4 : decode cX4_value 4 = .ok (.getfield 128, 3) := dk_180 0 128 (dk_at dksX4_value_0 4 rfl rfl)
theorem dX4_value_7 : decode cX4_value 7 = .ok (.aload_n 0, 1) := dk_42 (dk_at dksX4_value_0 7 rfl rfl)
theorem dX4_value_8 : decode cX4_value 8 = .ok (.getfield 131, 3) := dk_180 0 131 (dk_at dksX4_value_0 8 rfl rfl)
theorem dX4_value_11 : decode cX4_value 11 = .ok (.iaload, 1) := dk_46 (dk_at dksX4_value_0 11 rfl rfl)
theorem dX4_value_12 : decode cX4_value 12 = .ok (.istore_n 1, 1) := dk_60 (dk_at dksX4_value_0 12 rfl rfl)
theorem dX4_value_13 : decode cX4_value 13 = .ok (.aload_n 0, 1) := dk_42 (dk_at dksX4_value_0 13 rfl rfl)
theorem dX4_value_14 : decode cX4_value 14 = .ok (.dup, 1) := dk_89 (dk_at dksX4_value_0 14 rfl rfl)
theorem dX4_value_15 : decode cX4_value 15 = .ok (.getfield 131, 3) := dk_180 0 131 (dk_at dksX4_value_0 15 rfl rfl)
theorem dX4_value_18 : decode cX4_value 18 = .ok (.iconst 1, 1) := dk_4 (dk_at dksX4_value_0 18 rfl rfl)
theorem dX4_value_19 : decode cX4_value 19 = .ok (.iadd, 1) := dk_96 (dk_at dksX4_value_0 19 rfl rfl)
theorem dX4_value_20 : decode cX4_value 20 = .ok (.putfield 131, 3) := dk_181 0 131 (dk_at dksX4_value_0 20 rfl rfl)
theorem dX4_value_23 : decode cX4_value 23 = .ok (.iload_n 1, 1) := dk_27 (dk_at dksX4_value_0 23 rfl rfl)
theorem dX4_value_24 : decode cX4_value 24 = .ok (.tableswitch 184 10 29 #[117, 130, 143, 152, 184, 184, 184, 184, 184, 184, 184, 102, 184, 184, 167, 184, 184, 184, 184, 96], 96) := by decide +kernel
theorem dX4_value_120 : decode cX4_value 120 = .ok (.aload_n 0, 1) := dk_42 (dk_at dksX4_value_2 0 rfl rfl)
theorem dX4_value_121 : decode cX4_value 121 = .ok (.invokevirtual 164, 3) := dk_182 0 164 (dk_at dksX4_value_2 1 rfl rfl)
theorem dX4_value_124 : decode cX4_value 124 = .ok (.ineg, 1) := dk_116 (dk_at dksX4_value_2 4 rfl rfl)
theorem dX4_value_125 : decode cX4_value 125 = .ok (.ireturn, 1) := dk_172 (dk_at dksX4_value_2 5 rfl rfl)
theorem dX4_value_126 : decode cX4_value 126 = .ok (.aload_n 0, 1) := dk_42 (dk_at dksX4_value_2 6 rfl rfl)
theorem dX4_value_127 : decode cX4_value 127 = .ok (.getfield 41, 3) := dk_180 0 41 (dk_at dksX4_value_2 7 rfl rfl)
theorem dX4_value_130 : decode cX4_value 130 = .ok (.getfield 134, 3) := dk_180 0 134 (dk_at dksX4_value_2 10 rfl rfl)
theorem dX4_value_133 : decode cX4_value 133 = .ok (.aload_n 0, 1) := dk_42 (dk_at dksX4_value_2 13 rfl rfl)
theorem dX4_value_134 : decode cX4_value 134 = .ok (.getfield 131, 3) := dk_180 0 131 (dk_at dksX4_value_2 14 rfl rfl)
theorem dX4_value_137 : decode cX4_value 137 = .ok (.iconst 1, 1) := dk_4 (dk_at dksX4_value_2 17 rfl rfl)
theorem dX4_value_138 : decode cX4_value 138 = .ok (.isub, 1) := dk_100 (dk_at dksX4_value_2 18 rfl rfl)
theorem dX4_value_139 : decode cX4_value 139 = .ok (.iaload, 1) := dk_46 (dk_at dksX4_value_2 19 rfl rfl)
theorem dX4_value_140 : decode cX4_value 140 = .ok (.ireturn, 1) := dk_172 (dk_at dksX4_value_2 20 rfl rfl)
theorem dX4_value_141 : decode cX4_value 141 = .ok (.aload_n 0, 1) := dk_42 (dk_at dksX4_value_2 21 rfl rfl)
theorem dX4_value_142 : decode cX4_value 142 = .ok (.getfield 44, 3) := dk_180 0 44 (dk_at dksX4_value_3 0 rfl rfl)
theorem dX4_value_145 : decode cX4_value 145 = .ok (.getfield 85, 3) := dk_180 0 85 (dk_at dksX4_value_3 3 rfl rfl)
theorem dX4_value_148 : decode cX4_value 148 = .ok (.aload_n 0, 1) := dk_42 (dk_at dksX4_value_3 6 rfl rfl)
theorem dX4_value_149 : decode cX4_value 149 = .ok (.invokevirtual 151, 3) := dk_182 0 151 (dk_at dksX4_value_3 7 rfl rfl)
theorem dX4_value_152 : decode cX4_value 152 = .ok (.iaload, 1) := dk_46 (dk_at dksX4_value_3 10 rfl rfl)
theorem dX4_value_153 : decode cX4_value 153 = .ok (.ireturn, 1) := dk_172 (dk_at dksX4_value_3 11 rfl rfl)
theorem dX4_value_154 : decode cX4_value 154 = .ok (.aload_n 0, 1) := dk_42 (dk_at dksX4_value_3 12 rfl rfl)
theorem dX4_value_155 : decode cX4_value 155 = .ok (.getfield 44, 3) := dk_180 0 44 (dk_at dksX4_value_3 13 rfl rfl)
theorem dX4_value_158 : decode cX4_value 158 = .ok (.getfield 88, 3) := dk_180 0 88 (dk_at dksX4_value_3 16 rfl rfl)
theorem dX4_value_161 : decode cX4_value 161 = .ok (.aload_n 0, 1) := dk_42 (dk_at dksX4_value_3 19 rfl rfl)
theorem dX4_value_162 : decode cX4_value 162 = .ok (.invokevirtual 151, 3) := dk_182 0 151 (dk_at dksX4_value_3 20 rfl rfl)
theorem dX4_value_165 : decode cX4_value 165 = .ok (.iaload, 1) := dk_46 (dk_at dksX4_value_3 23 rfl rfl)
theorem dX4_value_166 : decode cX4_value 166 = .ok (.ireturn, 1) := dk_172 (dk_at dksX4_value_4 0 rfl rfl)
theorem dX4_value_167 : decode cX4_value 167 = .ok (.aload_n 0, 1) := dk_42 (dk_at dksX4_value_4 1 rfl rfl)
theorem dX4_value_168 : decode cX4_value 168 = .ok (.aload_n 0, 1) := dk_42 (dk_at dksX4_value_4 2 rfl rfl)
theorem dX4_value_169 : decode cX4_value 169 = .ok (.invokevirtual 151, 3) := dk_182 0 151 (dk_at dksX4_value_4 3 rfl rfl)
theorem dX4_value_172 : decode cX4_value 172 = .ok (.invokevirtual 167, 3) := dk_182 0 167 (dk_at dksX4_value_4 6 rfl rfl)
theorem dX4_value_175 : decode cX4_value 175 = .ok (.ireturn, 1) := dk_172 (dk_at dksX4_value_4 9 rfl rfl)
theorem dX4_value_176 : decode cX4_value 176 = .ok (.aload_n 0, 1) := dk_42 (dk_at dksX4_value_4 10 rfl rfl)
theorem dX4_value_177 : decode cX4_value 177 = .ok (.invokevirtual 151, 3) := dk_182 0 151 (dk_at dksX4_value_4 11 rfl rfl)
theorem dX4_value_180 : decode cX4_value 180 = .ok (.istore_n 2, 1) := dk_61 (dk_at dksX4_value_4 14 rfl rfl)
theorem dX4_value_181 : decode cX4_value 181 = .ok (.aload_n 0, 1) := dk_42 (dk_at dksX4_value_4 15 rfl rfl)
theorem dX4_value_182 : decode cX4_value 182 = .ok (.iload_n 2, 1) := dk_28 (dk_at dksX4_value_4 16 rfl rfl)
theorem dX4_value_183 : decode cX4_value 183 = .ok (.aload_n 0, 1) := dk_42 (dk_at dksX4_value_4 17 rfl rfl)
theorem dX4_value_184 : decode cX4_value 184 = .ok (.invokevirtual 151, 3) := dk_182 0 151 (dk_at dksX4_value_4 18 rfl rfl)
theorem dX4_value_187 : decode cX4_value 187 = .ok (.invokevirtual 170, 3) := dk_182 0 170 (dk_at dksX4_value_4 21 rfl rfl)
theorem dX4_value_190 : decode cX4_value 190 = .ok (.ireturn, 1) := dk_172 (dk_at dksX4_value_5 0 rfl rfl)
theorem dX4_value_191 : decode cX4_value 191 = .ok (.aload_n 0, 1) := dk_42 (dk_at dksX4_value_5 1 rfl rfl)
theorem dX4_value_192 : decode cX4_value 192 = .ok (.invokevirtual 158, 3) := dk_182 0 158 (dk_at dksX4_value_5 2 rfl rfl)
theorem dX4_value_195 : decode cX4_value 195 = .ok (.istore_n 2, 1) := dk_61 (dk_at dksX4_value_5 5 rfl rfl)
theorem dX4_value_196 : decode cX4_value 196 = .ok (.aload_n 0, 1) := dk_42 (dk_at dksX4_value_5 6 rfl rfl)
theorem dX4_value_197 : decode cX4_value 197 = .ok (.dup, 1) := dk_89 (dk_at dksX4_value_5 7 rfl rfl)
theorem dX4_value_198 : decode cX4_value 198 = .ok (.getfield 131, 3) := dk_180 0 131 (dk_at dksX4_value_5 8 rfl rfl)
theorem dX4_value_201 : decode cX4_value 201 = .ok (.iconst 1, 1) := dk_4 (dk_at dksX4_value_5 11 rfl rfl)
theorem dX4_value_202 : decode cX4_value 202 = .ok (.iadd, 1) := dk_96 (dk_at dksX4_value_5 12 rfl rfl)
theorem dX4_value_203 : decode cX4_value 203 = .ok (.putfield 131, 3) := dk_181 0 131 (dk_at dksX4_value_5 13 rfl rfl)
theorem dX4_value_206 : decode cX4_value 206 = .ok (.iload_n 2, 1) := dk_28 (dk_at dksX4_value_5 16 rfl rfl)
theorem dX4_value_207 : decode cX4_value 207 = .ok (.ireturn, 1) := dk_172 (dk_at dksX4_value_5 17 rfl rfl)
theorem dX4_value_208 : decode cX4_value 208 = .ok (.aload_n 0, 1) := dk_42 (dk_at dksX4_value_5 18 rfl rfl)
theorem dX4_value_209 : decode cX4_value 209 = .ok (.dup, 1) := dk_89 (dk_at dksX4_value_5 19 rfl rfl)
theorem dX4_value_210 : decode cX4_value 210 = .ok (.getfield 131, 3) := dk_180 0 131 (dk_at dksX4_value_5 20 rfl rfl)
theorem dX4_value_213 : decode cX4_value 213 = .ok (.iconst 1, 1) := dk_4 (dk_at dksX4_value_5 23 rfl rfl)
theorem dX4_value_214 : decode cX4_value 214 = .ok (.iadd, 1) := dk_96 (dk_at dksX4_value_6 0 rfl rfl)
theorem dX4_value_215 : decode cX4_value 215 = .ok (.putfield 131, 3) := dk_181 0 131 (dk_at dksX4_value_6 1 rfl rfl)
theorem dX4_value_218 : decode cX4_value 218 = .ok (.aload_n 0, 1) := dk_42 (dk_at dksX4_value_6 4 rfl rfl)
theorem dX4_value_219 : decode cX4_value 219 = .ok (.invokevirtual 158, 3) := dk_182 0 158 (dk_at dksX4_value_6 5 rfl rfl)
theorem dX4_value_222 : decode cX4_value 222 = .ok (.istore_n 2, 1) := dk_61 (dk_at dksX4_value_6 8 rfl rfl)
theorem dX4_value_223 : decode cX4_value 223 = .ok (.aload_n 0, 1) := dk_42 (dk_at dksX4_value_6 9 rfl rfl)
theorem dX4_value_224 : decode cX4_value 224 = .ok (.dup, 1) := dk_89 (dk_at dksX4_value_6 10 rfl rfl)
theorem dX4_value_225 : decode cX4_value 225 = .ok (.getfield 131, 3) := dk_180 0 131 (dk_at dksX4_value_6 11 rfl rfl)
theorem dX4_value_228 : decode cX4_value 228 = .ok (.iconst 1, 1) := dk_4 (dk_at dksX4_value_6 14 rfl rfl)
theorem dX4_value_229 : decode cX4_value 229 = .ok (.iadd, 1) := dk_96 (dk_at dksX4_value_6 15 rfl rfl)
theorem dX4_value_230 : decode cX4_value 230 = .ok (.putfield 131, 3) := dk_181 0 131 (dk_at dksX4_value_6 16 rfl rfl)
theorem dX4_value_233 : decode cX4_value 233 = .ok (.aload_n 0, 1) := dk_42 (dk_at dksX4_value_6 19 rfl rfl)
theorem dX4_value_234 : decode cX4_value 234 = .ok (.invokevirtual 158, 3) := dk_182 0 158 (dk_at dksX4_value_6 20 rfl rfl)
theorem dX4_value_237 : decode cX4_value 237 = .ok (.istore_n 3, 1) := dk_62 (dk_at dksX4_value_6 23 rfl rfl)
theorem dX4_value_238 : decode cX4_value 238 = .ok (.aload_n 0, 1) := dk_42 (dk_at dksX4_value_7 0 rfl rfl)
theorem dX4_value_239 : decode cX4_value 239 = .ok (.dup, 1) := dk_89 (dk_at dksX4_value_7 1 rfl rfl)
theorem dX4_value_240 : decode cX4_value 240 = .ok (.getfield 131, 3) := dk_180 0 131 (dk_at dksX4_value_7 2 rfl rfl)
theorem dX4_value_243 : decode cX4_value 243 = .ok (.iconst 1, 1) := dk_4 (dk_at dksX4_value_7 5 rfl rfl)
theorem dX4_value_244 : decode cX4_value 244 = .ok (.iadd, 1) := dk_96 (dk_at dksX4_value_7 6 rfl rfl)
theorem dX4_value_245 : decode cX4_value 245 = .ok (.putfield 131, 3) := dk_181 0 131 (dk_at dksX4_value_7 7 rfl rfl)
theorem dX4_value_248 : decode cX4_value 248 = .ok (.iload_n 1, 1) := dk_27 (dk_at dksX4_value_7 10 rfl rfl)
theorem dX4_value_249 : decode cX4_value 249 = .ok (.bipush 18, 2) := dk_16 18 (dk_at dksX4_value_7 11 rfl rfl)
theorem dX4_value_251 : decode cX4_value 251 = .ok (.if_icmp .ne 11, 3) := dk_160 0 11 (dk_at dksX4_value_7 13 rfl rfl)
theorem dX4_value_254 : decode cX4_value 254 = .ok (.iload_n 2, 1) := dk_28 (dk_at dksX4_value_7 16 rfl rfl)
theorem dX4_value_255 : decode cX4_value 255 = .ok (.iload_n 3, 1) := dk_29 (dk_at dksX4_value_7 17 rfl rfl)
theorem dX4_value_256 : decode cX4_value 256 = .ok (.invokestatic 118, 3) := dk_184 0 118 (dk_at dksX4_value_7 18 rfl rfl)
theorem dX4_value_259 : decode cX4_value 259 = .ok (.goto 8, 3) := dk_167 0 8 (dk_at dksX4_value_7 21 rfl rfl)
theorem dX4_value_262 : decode cX4_value 262 = .ok (.iload_n 2, 1) := dk_28 (dk_at dksX4_value_8 0 rfl rfl)
theorem dX4_value_263 : decode cX4_value 263 = .ok (.iload_n 3, 1) := dk_29 (dk_at dksX4_value_8 1 rfl rfl)
theorem dX4_value_264 : decode cX4_value 264 = .ok (.invokestatic 120, 3) := dk_184 0 120 (dk_at dksX4_value_8 2 rfl rfl)
theorem dX4_value_267 : decode cX4_value 267 = .ok (.ireturn, 1) := dk_172 (dk_at dksX4_value_8 5 rfl rfl)
abbrev cX4_meant : ByteArray := prog_40_method_21_code
def yX4_meant : MethodName := ⟨RX4, "meant", "()I"⟩
def dkwX4_meant_1 : List UInt8 := [172]
abbrev dktX4_meant_1 : List UInt8 := dkwX4_meant_1 ++ []
def dkwX4_meant_0 : List UInt8 := [42, 89, 180, 0, 131, 4, 96, 181, 0, 131, 42, 180, 0, 41, 180, 0, 134, 42, 180, 0, 131, 4, 100, 46]
abbrev dktX4_meant_0 : List UInt8 := dkwX4_meant_0 ++ dktX4_meant_1
theorem dksX4_meant_0 : cX4_meant.data.toList.drop 0 = dktX4_meant_0 := by decide +kernel
theorem dksX4_meant_1 : cX4_meant.data.toList.drop 24 = dktX4_meant_1 := dk_seg dksX4_meant_0 24 rfl rfl
theorem dX4_meant_0 : decode cX4_meant 0 = .ok (.aload_n 0, 1) := dk_42 (dk_at dksX4_meant_0 0 rfl rfl)
theorem dX4_meant_1 : decode cX4_meant 1 = .ok (.dup, 1) := dk_89 (dk_at dksX4_meant_0 1 rfl rfl)
theorem dX4_meant_2 : decode cX4_meant 2 = .ok (.getfield 131, 3) := dk_180 0 131 (dk_at dksX4_meant_0 2 rfl rfl)
theorem dX4_meant_5 : decode cX4_meant 5 = .ok (.iconst 1, 1) := dk_4 (dk_at dksX4_meant_0 5 rfl rfl)
theorem dX4_meant_6 : decode cX4_meant 6 = .ok (.iadd, 1) := dk_96 (dk_at dksX4_meant_0 6 rfl rfl)
theorem dX4_meant_7 : decode cX4_meant 7 = .ok (.putfield 131, 3) := dk_181 0 131 (dk_at dksX4_meant_0 7 rfl rfl)
theorem dX4_meant_10 : decode cX4_meant 10 = .ok (.aload_n 0, 1) := dk_42 (dk_at dksX4_meant_0 10 rfl rfl)
theorem dX4_meant_11 : decode cX4_meant 11 = .ok (.getfield 41, 3) := dk_180 0 41 (dk_at dksX4_meant_0 11 rfl rfl)
theorem dX4_meant_14 : decode cX4_meant 14 = .ok (.getfield 134, 3) := dk_180 0 134 (dk_at dksX4_meant_0 14 rfl rfl)
theorem dX4_meant_17 : decode cX4_meant 17 = .ok (.aload_n 0, 1) := dk_42 (dk_at dksX4_meant_0 17 rfl rfl)
theorem dX4_meant_18 : decode cX4_meant 18 = .ok (.getfield 131, 3) := dk_180 0 131 (dk_at dksX4_meant_0 18 rfl rfl)
theorem dX4_meant_21 : decode cX4_meant 21 = .ok (.iconst 1, 1) := dk_4 (dk_at dksX4_meant_0 21 rfl rfl)
theorem dX4_meant_22 : decode cX4_meant 22 = .ok (.isub, 1) := dk_100 (dk_at dksX4_meant_0 22 rfl rfl)
theorem dX4_meant_23 : decode cX4_meant 23 = .ok (.iaload, 1) := dk_46 (dk_at dksX4_meant_0 23 rfl rfl)
theorem dX4_meant_24 : decode cX4_meant 24 = .ok (.ireturn, 1) := dk_172 (dk_at dksX4_meant_1 0 rfl rfl)
abbrev cX4_areaOf : ByteArray := prog_40_method_13_code
def yX4_areaOf : MethodName := ⟨RX4, "areaOf", "(I)I"⟩
def dkwX4_areaOf_0 : List UInt8 := [42, 27, 182, 0, 99, 184, 0, 103, 172]
abbrev dktX4_areaOf_0 : List UInt8 := dkwX4_areaOf_0 ++ []
theorem dksX4_areaOf_0 : cX4_areaOf.data.toList.drop 0 = dktX4_areaOf_0 := by decide +kernel
theorem dX4_areaOf_0 : decode cX4_areaOf 0 = .ok (.aload_n 0, 1) := dk_42 (dk_at dksX4_areaOf_0 0 rfl rfl)
theorem dX4_areaOf_1 : decode cX4_areaOf 1 = .ok (.iload_n 1, 1) := dk_27 (dk_at dksX4_areaOf_0 1 rfl rfl)
theorem dX4_areaOf_2 : decode cX4_areaOf 2 = .ok (.invokevirtual 99, 3) := dk_182 0 99 (dk_at dksX4_areaOf_0 2 rfl rfl)
theorem dX4_areaOf_5 : decode cX4_areaOf 5 = .ok (.invokestatic 103, 3) := dk_184 0 103 (dk_at dksX4_areaOf_0 5 rfl rfl)
theorem dX4_areaOf_8 : decode cX4_areaOf 8 = .ok (.ireturn, 1) := dk_172 (dk_at dksX4_areaOf_0 8 rfl rfl)
abbrev cX4_signedArea : ByteArray := prog_40_method_12_code
def yX4_signedArea : MethodName := ⟨RX4, "signedArea", "(I)I"⟩
def dkwX4_signedArea_3 : List UInt8 := [180, 0, 88, 21, 4, 46, 104, 100, 96, 61, 132, 3, 1, 167, 255, 176, 28, 172]
abbrev dktX4_signedArea_3 : List UInt8 := dkwX4_signedArea_3 ++ []
def dkwX4_signedArea_2 : List UInt8 := [180, 0, 44, 180, 0, 88, 21, 5, 46, 104, 42, 180, 0, 44, 180, 0, 85, 21, 5, 46, 42, 180, 0, 44]
abbrev dktX4_signedArea_2 : List UInt8 := dkwX4_signedArea_2 ++ dktX4_signedArea_3
def dkwX4_signedArea_1 : List UInt8 := [54, 4, 42, 27, 29, 4, 96, 182, 0, 95, 54, 5, 28, 42, 180, 0, 44, 180, 0, 85, 21, 4, 46, 42]
abbrev dktX4_signedArea_1 : List UInt8 := dkwX4_signedArea_1 ++ dktX4_signedArea_2
def dkwX4_signedArea_0 : List UInt8 := [3, 61, 3, 62, 29, 42, 180, 0, 41, 180, 0, 82, 27, 46, 162, 0, 73, 42, 27, 29, 182, 0, 95]
abbrev dktX4_signedArea_0 : List UInt8 := dkwX4_signedArea_0 ++ dktX4_signedArea_1
theorem dksX4_signedArea_0 : cX4_signedArea.data.toList.drop 0 = dktX4_signedArea_0 := by decide +kernel
theorem dksX4_signedArea_1 : cX4_signedArea.data.toList.drop 23 = dktX4_signedArea_1 := dk_seg dksX4_signedArea_0 23 rfl rfl
theorem dksX4_signedArea_2 : cX4_signedArea.data.toList.drop 47 = dktX4_signedArea_2 := dk_seg dksX4_signedArea_1 24 rfl rfl
theorem dksX4_signedArea_3 : cX4_signedArea.data.toList.drop 71 = dktX4_signedArea_3 := dk_seg dksX4_signedArea_2 24 rfl rfl
theorem dX4_signedArea_0 : decode cX4_signedArea 0 = .ok (.iconst 0, 1) := dk_3 (dk_at dksX4_signedArea_0 0 rfl rfl)
theorem dX4_signedArea_1 : decode cX4_signedArea 1 = .ok (.istore_n 2, 1) := dk_61 (dk_at dksX4_signedArea_0 1 rfl rfl)
theorem dX4_signedArea_2 : decode cX4_signedArea 2 = .ok (.iconst 0, 1) := dk_3 (dk_at dksX4_signedArea_0 2 rfl rfl)
theorem dX4_signedArea_3 : decode cX4_signedArea 3 = .ok (.istore_n 3, 1) := dk_62 (dk_at dksX4_signedArea_0 3 rfl rfl)
theorem dX4_signedArea_4 : decode cX4_signedArea 4 = .ok (.iload_n 3, 1) := dk_29 (dk_at dksX4_signedArea_0 4 rfl rfl)
theorem dX4_signedArea_5 : decode cX4_signedArea 5 = .ok (.aload_n 0, 1) := dk_42 (dk_at dksX4_signedArea_0 5 rfl rfl)
theorem dX4_signedArea_6 : decode cX4_signedArea 6 = .ok (.getfield 41, 3) := dk_180 0 41 (dk_at dksX4_signedArea_0 6 rfl rfl)
theorem dX4_signedArea_9 : decode cX4_signedArea 9 = .ok (.getfield 82, 3) := dk_180 0 82 (dk_at dksX4_signedArea_0 9 rfl rfl)
theorem dX4_signedArea_12 : decode cX4_signedArea 12 = .ok (.iload_n 1, 1) := dk_27 (dk_at dksX4_signedArea_0 12 rfl rfl)
theorem dX4_signedArea_13 : decode cX4_signedArea 13 = .ok (.iaload, 1) := dk_46 (dk_at dksX4_signedArea_0 13 rfl rfl)
theorem dX4_signedArea_14 : decode cX4_signedArea 14 = .ok (.if_icmp .ge 73, 3) := dk_162 0 73 (dk_at dksX4_signedArea_0 14 rfl rfl)
theorem dX4_signedArea_17 : decode cX4_signedArea 17 = .ok (.aload_n 0, 1) := dk_42 (dk_at dksX4_signedArea_0 17 rfl rfl)
theorem dX4_signedArea_18 : decode cX4_signedArea 18 = .ok (.iload_n 1, 1) := dk_27 (dk_at dksX4_signedArea_0 18 rfl rfl)
theorem dX4_signedArea_19 : decode cX4_signedArea 19 = .ok (.iload_n 3, 1) := dk_29 (dk_at dksX4_signedArea_0 19 rfl rfl)
theorem dX4_signedArea_20 : decode cX4_signedArea 20 = .ok (.invokevirtual 95, 3) := dk_182 0 95 (dk_at dksX4_signedArea_0 20 rfl rfl)
theorem dX4_signedArea_23 : decode cX4_signedArea 23 = .ok (.istore 4, 2) := dk_54 4 (dk_at dksX4_signedArea_1 0 rfl rfl)
theorem dX4_signedArea_25 : decode cX4_signedArea 25 = .ok (.aload_n 0, 1) := dk_42 (dk_at dksX4_signedArea_1 2 rfl rfl)
theorem dX4_signedArea_26 : decode cX4_signedArea 26 = .ok (.iload_n 1, 1) := dk_27 (dk_at dksX4_signedArea_1 3 rfl rfl)
theorem dX4_signedArea_27 : decode cX4_signedArea 27 = .ok (.iload_n 3, 1) := dk_29 (dk_at dksX4_signedArea_1 4 rfl rfl)
theorem dX4_signedArea_28 : decode cX4_signedArea 28 = .ok (.iconst 1, 1) := dk_4 (dk_at dksX4_signedArea_1 5 rfl rfl)
theorem dX4_signedArea_29 : decode cX4_signedArea 29 = .ok (.iadd, 1) := dk_96 (dk_at dksX4_signedArea_1 6 rfl rfl)
theorem dX4_signedArea_30 : decode cX4_signedArea 30 = .ok (.invokevirtual 95, 3) := dk_182 0 95 (dk_at dksX4_signedArea_1 7 rfl rfl)
theorem dX4_signedArea_33 : decode cX4_signedArea 33 = .ok (.istore 5, 2) := dk_54 5 (dk_at dksX4_signedArea_1 10 rfl rfl)
theorem dX4_signedArea_35 : decode cX4_signedArea 35 = .ok (.iload_n 2, 1) := dk_28 (dk_at dksX4_signedArea_1 12 rfl rfl)
theorem dX4_signedArea_36 : decode cX4_signedArea 36 = .ok (.aload_n 0, 1) := dk_42 (dk_at dksX4_signedArea_1 13 rfl rfl)
theorem dX4_signedArea_37 : decode cX4_signedArea 37 = .ok (.getfield 44, 3) := dk_180 0 44 (dk_at dksX4_signedArea_1 14 rfl rfl)
theorem dX4_signedArea_40 : decode cX4_signedArea 40 = .ok (.getfield 85, 3) := dk_180 0 85 (dk_at dksX4_signedArea_1 17 rfl rfl)
theorem dX4_signedArea_43 : decode cX4_signedArea 43 = .ok (.iload 4, 2) := dk_21 4 (dk_at dksX4_signedArea_1 20 rfl rfl)
theorem dX4_signedArea_45 : decode cX4_signedArea 45 = .ok (.iaload, 1) := dk_46 (dk_at dksX4_signedArea_1 22 rfl rfl)
theorem dX4_signedArea_46 : decode cX4_signedArea 46 = .ok (.aload_n 0, 1) := dk_42 (dk_at dksX4_signedArea_1 23 rfl rfl)
theorem dX4_signedArea_47 : decode cX4_signedArea 47 = .ok (.getfield 44, 3) := dk_180 0 44 (dk_at dksX4_signedArea_2 0 rfl rfl)
theorem dX4_signedArea_50 : decode cX4_signedArea 50 = .ok (.getfield 88, 3) := dk_180 0 88 (dk_at dksX4_signedArea_2 3 rfl rfl)
theorem dX4_signedArea_53 : decode cX4_signedArea 53 = .ok (.iload 5, 2) := dk_21 5 (dk_at dksX4_signedArea_2 6 rfl rfl)
theorem dX4_signedArea_55 : decode cX4_signedArea 55 = .ok (.iaload, 1) := dk_46 (dk_at dksX4_signedArea_2 8 rfl rfl)
theorem dX4_signedArea_56 : decode cX4_signedArea 56 = .ok (.imul, 1) := dk_104 (dk_at dksX4_signedArea_2 9 rfl rfl)
theorem dX4_signedArea_57 : decode cX4_signedArea 57 = .ok (.aload_n 0, 1) := dk_42 (dk_at dksX4_signedArea_2 10 rfl rfl)
theorem dX4_signedArea_58 : decode cX4_signedArea 58 = .ok (.getfield 44, 3) := dk_180 0 44 (dk_at dksX4_signedArea_2 11 rfl rfl)
theorem dX4_signedArea_61 : decode cX4_signedArea 61 = .ok (.getfield 85, 3) := dk_180 0 85 (dk_at dksX4_signedArea_2 14 rfl rfl)
theorem dX4_signedArea_64 : decode cX4_signedArea 64 = .ok (.iload 5, 2) := dk_21 5 (dk_at dksX4_signedArea_2 17 rfl rfl)
theorem dX4_signedArea_66 : decode cX4_signedArea 66 = .ok (.iaload, 1) := dk_46 (dk_at dksX4_signedArea_2 19 rfl rfl)
theorem dX4_signedArea_67 : decode cX4_signedArea 67 = .ok (.aload_n 0, 1) := dk_42 (dk_at dksX4_signedArea_2 20 rfl rfl)
theorem dX4_signedArea_68 : decode cX4_signedArea 68 = .ok (.getfield 44, 3) := dk_180 0 44 (dk_at dksX4_signedArea_2 21 rfl rfl)
theorem dX4_signedArea_71 : decode cX4_signedArea 71 = .ok (.getfield 88, 3) := dk_180 0 88 (dk_at dksX4_signedArea_3 0 rfl rfl)
theorem dX4_signedArea_74 : decode cX4_signedArea 74 = .ok (.iload 4, 2) := dk_21 4 (dk_at dksX4_signedArea_3 3 rfl rfl)
theorem dX4_signedArea_76 : decode cX4_signedArea 76 = .ok (.iaload, 1) := dk_46 (dk_at dksX4_signedArea_3 5 rfl rfl)
theorem dX4_signedArea_77 : decode cX4_signedArea 77 = .ok (.imul, 1) := dk_104 (dk_at dksX4_signedArea_3 6 rfl rfl)
theorem dX4_signedArea_78 : decode cX4_signedArea 78 = .ok (.isub, 1) := dk_100 (dk_at dksX4_signedArea_3 7 rfl rfl)
theorem dX4_signedArea_79 : decode cX4_signedArea 79 = .ok (.iadd, 1) := dk_96 (dk_at dksX4_signedArea_3 8 rfl rfl)
theorem dX4_signedArea_80 : decode cX4_signedArea 80 = .ok (.istore_n 2, 1) := dk_61 (dk_at dksX4_signedArea_3 9 rfl rfl)
theorem dX4_signedArea_81 : decode cX4_signedArea 81 = .ok (.iinc 3 1, 3) := dk_132 3 1 (dk_at dksX4_signedArea_3 10 rfl rfl)
theorem dX4_signedArea_84 : decode cX4_signedArea 84 = .ok (.goto (-80), 3) := dk_167 255 176 (dk_at dksX4_signedArea_3 13 rfl rfl)
theorem dX4_signedArea_87 : decode cX4_signedArea 87 = .ok (.iload_n 2, 1) := dk_28 (dk_at dksX4_signedArea_3 16 rfl rfl)
theorem dX4_signedArea_88 : decode cX4_signedArea 88 = .ok (.ireturn, 1) := dk_172 (dk_at dksX4_signedArea_3 17 rfl rfl)
abbrev cX4_cornerOf : ByteArray := prog_40_method_9_code
def yX4_cornerOf : MethodName := ⟨RX4, "cornerOf", "(II)I"⟩
def dkwX4_cornerOf_1 : List UInt8 := [172]
abbrev dktX4_cornerOf_1 : List UInt8 := dkwX4_cornerOf_1 ++ []
def dkwX4_cornerOf_0 : List UInt8 := [42, 180, 0, 41, 180, 0, 79, 16, 8, 27, 104, 28, 42, 180, 0, 41, 180, 0, 82, 27, 46, 112, 96, 46]
abbrev dktX4_cornerOf_0 : List UInt8 := dkwX4_cornerOf_0 ++ dktX4_cornerOf_1
theorem dksX4_cornerOf_0 : cX4_cornerOf.data.toList.drop 0 = dktX4_cornerOf_0 := by decide +kernel
theorem dksX4_cornerOf_1 : cX4_cornerOf.data.toList.drop 24 = dktX4_cornerOf_1 := dk_seg dksX4_cornerOf_0 24 rfl rfl
theorem dX4_cornerOf_0 : decode cX4_cornerOf 0 = .ok (.aload_n 0, 1) := dk_42 (dk_at dksX4_cornerOf_0 0 rfl rfl)
theorem dX4_cornerOf_1 : decode cX4_cornerOf 1 = .ok (.getfield 41, 3) := dk_180 0 41 (dk_at dksX4_cornerOf_0 1 rfl rfl)
theorem dX4_cornerOf_4 : decode cX4_cornerOf 4 = .ok (.getfield 79, 3) := dk_180 0 79 (dk_at dksX4_cornerOf_0 4 rfl rfl)
theorem dX4_cornerOf_7 : decode cX4_cornerOf 7 = .ok (.bipush 8, 2) := dk_16 8 (dk_at dksX4_cornerOf_0 7 rfl rfl)
theorem dX4_cornerOf_9 : decode cX4_cornerOf 9 = .ok (.iload_n 1, 1) := dk_27 (dk_at dksX4_cornerOf_0 9 rfl rfl)
theorem dX4_cornerOf_10 : decode cX4_cornerOf 10 = .ok (.imul, 1) := dk_104 (dk_at dksX4_cornerOf_0 10 rfl rfl)
theorem dX4_cornerOf_11 : decode cX4_cornerOf 11 = .ok (.iload_n 2, 1) := dk_28 (dk_at dksX4_cornerOf_0 11 rfl rfl)
theorem dX4_cornerOf_12 : decode cX4_cornerOf 12 = .ok (.aload_n 0, 1) := dk_42 (dk_at dksX4_cornerOf_0 12 rfl rfl)
theorem dX4_cornerOf_13 : decode cX4_cornerOf 13 = .ok (.getfield 41, 3) := dk_180 0 41 (dk_at dksX4_cornerOf_0 13 rfl rfl)
theorem dX4_cornerOf_16 : decode cX4_cornerOf 16 = .ok (.getfield 82, 3) := dk_180 0 82 (dk_at dksX4_cornerOf_0 16 rfl rfl)
theorem dX4_cornerOf_19 : decode cX4_cornerOf 19 = .ok (.iload_n 1, 1) := dk_27 (dk_at dksX4_cornerOf_0 19 rfl rfl)
theorem dX4_cornerOf_20 : decode cX4_cornerOf 20 = .ok (.iaload, 1) := dk_46 (dk_at dksX4_cornerOf_0 20 rfl rfl)
theorem dX4_cornerOf_21 : decode cX4_cornerOf 21 = .ok (.irem, 1) := dk_112 (dk_at dksX4_cornerOf_0 21 rfl rfl)
theorem dX4_cornerOf_22 : decode cX4_cornerOf 22 = .ok (.iadd, 1) := dk_96 (dk_at dksX4_cornerOf_0 22 rfl rfl)
theorem dX4_cornerOf_23 : decode cX4_cornerOf 23 = .ok (.iaload, 1) := dk_46 (dk_at dksX4_cornerOf_0 23 rfl rfl)
theorem dX4_cornerOf_24 : decode cX4_cornerOf 24 = .ok (.ireturn, 1) := dk_172 (dk_at dksX4_cornerOf_1 0 rfl rfl)
abbrev cX4_crossings : ByteArray := prog_40_method_16_code
def yX4_crossings : MethodName := ⟨RX4, "crossings", "(II)I"⟩
def dkwX4_crossings_3 : List UInt8 := [167, 255, 218, 132, 4, 1, 167, 255, 183, 29, 172]
abbrev dktX4_crossings_3 : List UInt8 := dkwX4_crossings_3 ++ []
def dkwX4_crossings_2 : List UInt8 := [29, 42, 27, 21, 4, 28, 21, 5, 182, 0, 114, 153, 0, 7, 4, 167, 0, 4, 3, 96, 62, 132, 5, 1]
abbrev dktX4_crossings_2 : List UInt8 := dkwX4_crossings_2 ++ dktX4_crossings_3
def dkwX4_crossings_1 : List UInt8 := [21, 4, 4, 96, 167, 0, 4, 3, 54, 5, 21, 5, 42, 180, 0, 41, 180, 0, 82, 28, 46, 162, 0, 30]
abbrev dktX4_crossings_1 : List UInt8 := dkwX4_crossings_1 ++ dktX4_crossings_2
def dkwX4_crossings_0 : List UInt8 := [3, 62, 3, 54, 4, 21, 4, 42, 180, 0, 41, 180, 0, 82, 27, 46, 162, 0, 65, 27, 28, 160, 0, 10]
abbrev dktX4_crossings_0 : List UInt8 := dkwX4_crossings_0 ++ dktX4_crossings_1
theorem dksX4_crossings_0 : cX4_crossings.data.toList.drop 0 = dktX4_crossings_0 := by decide +kernel
theorem dksX4_crossings_1 : cX4_crossings.data.toList.drop 24 = dktX4_crossings_1 := dk_seg dksX4_crossings_0 24 rfl rfl
theorem dksX4_crossings_2 : cX4_crossings.data.toList.drop 48 = dktX4_crossings_2 := dk_seg dksX4_crossings_1 24 rfl rfl
theorem dksX4_crossings_3 : cX4_crossings.data.toList.drop 72 = dktX4_crossings_3 := dk_seg dksX4_crossings_2 24 rfl rfl
theorem dX4_crossings_0 : decode cX4_crossings 0 = .ok (.iconst 0, 1) := dk_3 (dk_at dksX4_crossings_0 0 rfl rfl)
theorem dX4_crossings_1 : decode cX4_crossings 1 = .ok (.istore_n 3, 1) := dk_62 (dk_at dksX4_crossings_0 1 rfl rfl)
theorem dX4_crossings_2 : decode cX4_crossings 2 = .ok (.iconst 0, 1) := dk_3 (dk_at dksX4_crossings_0 2 rfl rfl)
theorem dX4_crossings_3 : decode cX4_crossings 3 = .ok (.istore 4, 2) := dk_54 4 (dk_at dksX4_crossings_0 3 rfl rfl)
theorem dX4_crossings_5 : decode cX4_crossings 5 = .ok (.iload 4, 2) := dk_21 4 (dk_at dksX4_crossings_0 5 rfl rfl)
theorem dX4_crossings_7 : decode cX4_crossings 7 = .ok (.aload_n 0, 1) := dk_42 (dk_at dksX4_crossings_0 7 rfl rfl)
theorem dX4_crossings_8 : decode cX4_crossings 8 = .ok (.getfield 41, 3) := dk_180 0 41 (dk_at dksX4_crossings_0 8 rfl rfl)
theorem dX4_crossings_11 : decode cX4_crossings 11 = .ok (.getfield 82, 3) := dk_180 0 82 (dk_at dksX4_crossings_0 11 rfl rfl)
theorem dX4_crossings_14 : decode cX4_crossings 14 = .ok (.iload_n 1, 1) := dk_27 (dk_at dksX4_crossings_0 14 rfl rfl)
theorem dX4_crossings_15 : decode cX4_crossings 15 = .ok (.iaload, 1) := dk_46 (dk_at dksX4_crossings_0 15 rfl rfl)
theorem dX4_crossings_16 : decode cX4_crossings 16 = .ok (.if_icmp .ge 65, 3) := dk_162 0 65 (dk_at dksX4_crossings_0 16 rfl rfl)
theorem dX4_crossings_19 : decode cX4_crossings 19 = .ok (.iload_n 1, 1) := dk_27 (dk_at dksX4_crossings_0 19 rfl rfl)
theorem dX4_crossings_20 : decode cX4_crossings 20 = .ok (.iload_n 2, 1) := dk_28 (dk_at dksX4_crossings_0 20 rfl rfl)
theorem dX4_crossings_21 : decode cX4_crossings 21 = .ok (.if_icmp .ne 10, 3) := dk_160 0 10 (dk_at dksX4_crossings_0 21 rfl rfl)
theorem dX4_crossings_24 : decode cX4_crossings 24 = .ok (.iload 4, 2) := dk_21 4 (dk_at dksX4_crossings_1 0 rfl rfl)
theorem dX4_crossings_26 : decode cX4_crossings 26 = .ok (.iconst 1, 1) := dk_4 (dk_at dksX4_crossings_1 2 rfl rfl)
theorem dX4_crossings_27 : decode cX4_crossings 27 = .ok (.iadd, 1) := dk_96 (dk_at dksX4_crossings_1 3 rfl rfl)
theorem dX4_crossings_28 : decode cX4_crossings 28 = .ok (.goto 4, 3) := dk_167 0 4 (dk_at dksX4_crossings_1 4 rfl rfl)
theorem dX4_crossings_31 : decode cX4_crossings 31 = .ok (.iconst 0, 1) := dk_3 (dk_at dksX4_crossings_1 7 rfl rfl)
theorem dX4_crossings_32 : decode cX4_crossings 32 = .ok (.istore 5, 2) := dk_54 5 (dk_at dksX4_crossings_1 8 rfl rfl)
theorem dX4_crossings_34 : decode cX4_crossings 34 = .ok (.iload 5, 2) := dk_21 5 (dk_at dksX4_crossings_1 10 rfl rfl)
theorem dX4_crossings_36 : decode cX4_crossings 36 = .ok (.aload_n 0, 1) := dk_42 (dk_at dksX4_crossings_1 12 rfl rfl)
theorem dX4_crossings_37 : decode cX4_crossings 37 = .ok (.getfield 41, 3) := dk_180 0 41 (dk_at dksX4_crossings_1 13 rfl rfl)
theorem dX4_crossings_40 : decode cX4_crossings 40 = .ok (.getfield 82, 3) := dk_180 0 82 (dk_at dksX4_crossings_1 16 rfl rfl)
theorem dX4_crossings_43 : decode cX4_crossings 43 = .ok (.iload_n 2, 1) := dk_28 (dk_at dksX4_crossings_1 19 rfl rfl)
theorem dX4_crossings_44 : decode cX4_crossings 44 = .ok (.iaload, 1) := dk_46 (dk_at dksX4_crossings_1 20 rfl rfl)
theorem dX4_crossings_45 : decode cX4_crossings 45 = .ok (.if_icmp .ge 30, 3) := dk_162 0 30 (dk_at dksX4_crossings_1 21 rfl rfl)
theorem dX4_crossings_48 : decode cX4_crossings 48 = .ok (.iload_n 3, 1) := dk_29 (dk_at dksX4_crossings_2 0 rfl rfl)
theorem dX4_crossings_49 : decode cX4_crossings 49 = .ok (.aload_n 0, 1) := dk_42 (dk_at dksX4_crossings_2 1 rfl rfl)
theorem dX4_crossings_50 : decode cX4_crossings 50 = .ok (.iload_n 1, 1) := dk_27 (dk_at dksX4_crossings_2 2 rfl rfl)
theorem dX4_crossings_51 : decode cX4_crossings 51 = .ok (.iload 4, 2) := dk_21 4 (dk_at dksX4_crossings_2 3 rfl rfl)
theorem dX4_crossings_53 : decode cX4_crossings 53 = .ok (.iload_n 2, 1) := dk_28 (dk_at dksX4_crossings_2 5 rfl rfl)
theorem dX4_crossings_54 : decode cX4_crossings 54 = .ok (.iload 5, 2) := dk_21 5 (dk_at dksX4_crossings_2 6 rfl rfl)
theorem dX4_crossings_56 : decode cX4_crossings 56 = .ok (.invokevirtual 114, 3) := dk_182 0 114 (dk_at dksX4_crossings_2 8 rfl rfl)
theorem dX4_crossings_59 : decode cX4_crossings 59 = .ok (.ifCond .eq 7, 3) := dk_153 0 7 (dk_at dksX4_crossings_2 11 rfl rfl)
theorem dX4_crossings_62 : decode cX4_crossings 62 = .ok (.iconst 1, 1) := dk_4 (dk_at dksX4_crossings_2 14 rfl rfl)
theorem dX4_crossings_63 : decode cX4_crossings 63 = .ok (.goto 4, 3) := dk_167 0 4 (dk_at dksX4_crossings_2 15 rfl rfl)
theorem dX4_crossings_66 : decode cX4_crossings 66 = .ok (.iconst 0, 1) := dk_3 (dk_at dksX4_crossings_2 18 rfl rfl)
theorem dX4_crossings_67 : decode cX4_crossings 67 = .ok (.iadd, 1) := dk_96 (dk_at dksX4_crossings_2 19 rfl rfl)
theorem dX4_crossings_68 : decode cX4_crossings 68 = .ok (.istore_n 3, 1) := dk_62 (dk_at dksX4_crossings_2 20 rfl rfl)
theorem dX4_crossings_69 : decode cX4_crossings 69 = .ok (.iinc 5 1, 3) := dk_132 5 1 (dk_at dksX4_crossings_2 21 rfl rfl)
theorem dX4_crossings_72 : decode cX4_crossings 72 = .ok (.goto (-38), 3) := dk_167 255 218 (dk_at dksX4_crossings_3 0 rfl rfl)
theorem dX4_crossings_75 : decode cX4_crossings 75 = .ok (.iinc 4 1, 3) := dk_132 4 1 (dk_at dksX4_crossings_3 3 rfl rfl)
theorem dX4_crossings_78 : decode cX4_crossings 78 = .ok (.goto (-73), 3) := dk_167 255 183 (dk_at dksX4_crossings_3 6 rfl rfl)
theorem dX4_crossings_81 : decode cX4_crossings 81 = .ok (.iload_n 3, 1) := dk_29 (dk_at dksX4_crossings_3 9 rfl rfl)
theorem dX4_crossings_82 : decode cX4_crossings 82 = .ok (.ireturn, 1) := dk_172 (dk_at dksX4_crossings_3 10 rfl rfl)
abbrev cX4_doCross : ByteArray := prog_40_method_15_code
def yX4_doCross : MethodName := ⟨RX4, "doCross", "(IIII)Z"⟩
def dkwX4_doCross_4 : List UInt8 := [167, 0, 4, 3, 172]
abbrev dktX4_doCross_4 : List UInt8 := dkwX4_doCross_4 ++ []
def dkwX4_doCross_3 : List UInt8 := [21, 5, 182, 0, 106, 42, 21, 7, 21, 8, 21, 6, 182, 0, 106, 184, 0, 110, 153, 0, 7, 4]
abbrev dktX4_doCross_3 : List UInt8 := dkwX4_doCross_3 ++ dktX4_doCross_4
def dkwX4_doCross_2 : List UInt8 := [182, 0, 106, 42, 21, 5, 21, 6, 21, 8, 182, 0, 106, 184, 0, 110, 153, 0, 33, 42, 21, 7, 21, 8]
abbrev dktX4_doCross_2 : List UInt8 := dkwX4_doCross_2 ++ dktX4_doCross_3
def dkwX4_doCross_1 : List UInt8 := [182, 0, 95, 54, 7, 42, 29, 21, 4, 4, 96, 182, 0, 95, 54, 8, 42, 21, 5, 21, 6, 21, 7]
abbrev dktX4_doCross_1 : List UInt8 := dkwX4_doCross_1 ++ dktX4_doCross_2
def dkwX4_doCross_0 : List UInt8 := [42, 27, 28, 182, 0, 95, 54, 5, 42, 27, 28, 4, 96, 182, 0, 95, 54, 6, 42, 29, 21, 4]
abbrev dktX4_doCross_0 : List UInt8 := dkwX4_doCross_0 ++ dktX4_doCross_1
theorem dksX4_doCross_0 : cX4_doCross.data.toList.drop 0 = dktX4_doCross_0 := by decide +kernel
theorem dksX4_doCross_1 : cX4_doCross.data.toList.drop 22 = dktX4_doCross_1 := dk_seg dksX4_doCross_0 22 rfl rfl
theorem dksX4_doCross_2 : cX4_doCross.data.toList.drop 45 = dktX4_doCross_2 := dk_seg dksX4_doCross_1 23 rfl rfl
theorem dksX4_doCross_3 : cX4_doCross.data.toList.drop 69 = dktX4_doCross_3 := dk_seg dksX4_doCross_2 24 rfl rfl
theorem dksX4_doCross_4 : cX4_doCross.data.toList.drop 91 = dktX4_doCross_4 := dk_seg dksX4_doCross_3 22 rfl rfl
theorem dX4_doCross_0 : decode cX4_doCross 0 = .ok (.aload_n 0, 1) := dk_42 (dk_at dksX4_doCross_0 0 rfl rfl)
theorem dX4_doCross_1 : decode cX4_doCross 1 = .ok (.iload_n 1, 1) := dk_27 (dk_at dksX4_doCross_0 1 rfl rfl)
theorem dX4_doCross_2 : decode cX4_doCross 2 = .ok (.iload_n 2, 1) := dk_28 (dk_at dksX4_doCross_0 2 rfl rfl)
theorem dX4_doCross_3 : decode cX4_doCross 3 = .ok (.invokevirtual 95, 3) := dk_182 0 95 (dk_at dksX4_doCross_0 3 rfl rfl)
theorem dX4_doCross_6 : decode cX4_doCross 6 = .ok (.istore 5, 2) := dk_54 5 (dk_at dksX4_doCross_0 6 rfl rfl)
theorem dX4_doCross_8 : decode cX4_doCross 8 = .ok (.aload_n 0, 1) := dk_42 (dk_at dksX4_doCross_0 8 rfl rfl)
theorem dX4_doCross_9 : decode cX4_doCross 9 = .ok (.iload_n 1, 1) := dk_27 (dk_at dksX4_doCross_0 9 rfl rfl)
theorem dX4_doCross_10 : decode cX4_doCross 10 = .ok (.iload_n 2, 1) := dk_28 (dk_at dksX4_doCross_0 10 rfl rfl)
theorem dX4_doCross_11 : decode cX4_doCross 11 = .ok (.iconst 1, 1) := dk_4 (dk_at dksX4_doCross_0 11 rfl rfl)
theorem dX4_doCross_12 : decode cX4_doCross 12 = .ok (.iadd, 1) := dk_96 (dk_at dksX4_doCross_0 12 rfl rfl)
theorem dX4_doCross_13 : decode cX4_doCross 13 = .ok (.invokevirtual 95, 3) := dk_182 0 95 (dk_at dksX4_doCross_0 13 rfl rfl)
theorem dX4_doCross_16 : decode cX4_doCross 16 = .ok (.istore 6, 2) := dk_54 6 (dk_at dksX4_doCross_0 16 rfl rfl)
theorem dX4_doCross_18 : decode cX4_doCross 18 = .ok (.aload_n 0, 1) := dk_42 (dk_at dksX4_doCross_0 18 rfl rfl)
theorem dX4_doCross_19 : decode cX4_doCross 19 = .ok (.iload_n 3, 1) := dk_29 (dk_at dksX4_doCross_0 19 rfl rfl)
theorem dX4_doCross_20 : decode cX4_doCross 20 = .ok (.iload 4, 2) := dk_21 4 (dk_at dksX4_doCross_0 20 rfl rfl)
theorem dX4_doCross_22 : decode cX4_doCross 22 = .ok (.invokevirtual 95, 3) := dk_182 0 95 (dk_at dksX4_doCross_1 0 rfl rfl)
theorem dX4_doCross_25 : decode cX4_doCross 25 = .ok (.istore 7, 2) := dk_54 7 (dk_at dksX4_doCross_1 3 rfl rfl)
theorem dX4_doCross_27 : decode cX4_doCross 27 = .ok (.aload_n 0, 1) := dk_42 (dk_at dksX4_doCross_1 5 rfl rfl)
theorem dX4_doCross_28 : decode cX4_doCross 28 = .ok (.iload_n 3, 1) := dk_29 (dk_at dksX4_doCross_1 6 rfl rfl)
theorem dX4_doCross_29 : decode cX4_doCross 29 = .ok (.iload 4, 2) := dk_21 4 (dk_at dksX4_doCross_1 7 rfl rfl)
theorem dX4_doCross_31 : decode cX4_doCross 31 = .ok (.iconst 1, 1) := dk_4 (dk_at dksX4_doCross_1 9 rfl rfl)
theorem dX4_doCross_32 : decode cX4_doCross 32 = .ok (.iadd, 1) := dk_96 (dk_at dksX4_doCross_1 10 rfl rfl)
theorem dX4_doCross_33 : decode cX4_doCross 33 = .ok (.invokevirtual 95, 3) := dk_182 0 95 (dk_at dksX4_doCross_1 11 rfl rfl)
theorem dX4_doCross_36 : decode cX4_doCross 36 = .ok (.istore 8, 2) := dk_54 8 (dk_at dksX4_doCross_1 14 rfl rfl)
theorem dX4_doCross_38 : decode cX4_doCross 38 = .ok (.aload_n 0, 1) := dk_42 (dk_at dksX4_doCross_1 16 rfl rfl)
theorem dX4_doCross_39 : decode cX4_doCross 39 = .ok (.iload 5, 2) := dk_21 5 (dk_at dksX4_doCross_1 17 rfl rfl)
theorem dX4_doCross_41 : decode cX4_doCross 41 = .ok (.iload 6, 2) := dk_21 6 (dk_at dksX4_doCross_1 19 rfl rfl)
theorem dX4_doCross_43 : decode cX4_doCross 43 = .ok (.iload 7, 2) := dk_21 7 (dk_at dksX4_doCross_1 21 rfl rfl)
theorem dX4_doCross_45 : decode cX4_doCross 45 = .ok (.invokevirtual 106, 3) := dk_182 0 106 (dk_at dksX4_doCross_2 0 rfl rfl)
theorem dX4_doCross_48 : decode cX4_doCross 48 = .ok (.aload_n 0, 1) := dk_42 (dk_at dksX4_doCross_2 3 rfl rfl)
theorem dX4_doCross_49 : decode cX4_doCross 49 = .ok (.iload 5, 2) := dk_21 5 (dk_at dksX4_doCross_2 4 rfl rfl)
theorem dX4_doCross_51 : decode cX4_doCross 51 = .ok (.iload 6, 2) := dk_21 6 (dk_at dksX4_doCross_2 6 rfl rfl)
theorem dX4_doCross_53 : decode cX4_doCross 53 = .ok (.iload 8, 2) := dk_21 8 (dk_at dksX4_doCross_2 8 rfl rfl)
theorem dX4_doCross_55 : decode cX4_doCross 55 = .ok (.invokevirtual 106, 3) := dk_182 0 106 (dk_at dksX4_doCross_2 10 rfl rfl)
theorem dX4_doCross_58 : decode cX4_doCross 58 = .ok (.invokestatic 110, 3) := dk_184 0 110 (dk_at dksX4_doCross_2 13 rfl rfl)
theorem dX4_doCross_61 : decode cX4_doCross 61 = .ok (.ifCond .eq 33, 3) := dk_153 0 33 (dk_at dksX4_doCross_2 16 rfl rfl)
theorem dX4_doCross_64 : decode cX4_doCross 64 = .ok (.aload_n 0, 1) := dk_42 (dk_at dksX4_doCross_2 19 rfl rfl)
theorem dX4_doCross_65 : decode cX4_doCross 65 = .ok (.iload 7, 2) := dk_21 7 (dk_at dksX4_doCross_2 20 rfl rfl)
theorem dX4_doCross_67 : decode cX4_doCross 67 = .ok (.iload 8, 2) := dk_21 8 (dk_at dksX4_doCross_2 22 rfl rfl)
theorem dX4_doCross_69 : decode cX4_doCross 69 = .ok (.iload 5, 2) := dk_21 5 (dk_at dksX4_doCross_3 0 rfl rfl)
theorem dX4_doCross_71 : decode cX4_doCross 71 = .ok (.invokevirtual 106, 3) := dk_182 0 106 (dk_at dksX4_doCross_3 2 rfl rfl)
theorem dX4_doCross_74 : decode cX4_doCross 74 = .ok (.aload_n 0, 1) := dk_42 (dk_at dksX4_doCross_3 5 rfl rfl)
theorem dX4_doCross_75 : decode cX4_doCross 75 = .ok (.iload 7, 2) := dk_21 7 (dk_at dksX4_doCross_3 6 rfl rfl)
theorem dX4_doCross_77 : decode cX4_doCross 77 = .ok (.iload 8, 2) := dk_21 8 (dk_at dksX4_doCross_3 8 rfl rfl)
theorem dX4_doCross_79 : decode cX4_doCross 79 = .ok (.iload 6, 2) := dk_21 6 (dk_at dksX4_doCross_3 10 rfl rfl)
theorem dX4_doCross_81 : decode cX4_doCross 81 = .ok (.invokevirtual 106, 3) := dk_182 0 106 (dk_at dksX4_doCross_3 12 rfl rfl)
theorem dX4_doCross_84 : decode cX4_doCross 84 = .ok (.invokestatic 110, 3) := dk_184 0 110 (dk_at dksX4_doCross_3 15 rfl rfl)
theorem dX4_doCross_87 : decode cX4_doCross 87 = .ok (.ifCond .eq 7, 3) := dk_153 0 7 (dk_at dksX4_doCross_3 18 rfl rfl)
theorem dX4_doCross_90 : decode cX4_doCross 90 = .ok (.iconst 1, 1) := dk_4 (dk_at dksX4_doCross_3 21 rfl rfl)
theorem dX4_doCross_91 : decode cX4_doCross 91 = .ok (.goto 4, 3) := dk_167 0 4 (dk_at dksX4_doCross_4 0 rfl rfl)
theorem dX4_doCross_94 : decode cX4_doCross 94 = .ok (.iconst 0, 1) := dk_3 (dk_at dksX4_doCross_4 3 rfl rfl)
theorem dX4_doCross_95 : decode cX4_doCross 95 = .ok (.ireturn, 1) := dk_172 (dk_at dksX4_doCross_4 4 rfl rfl)
abbrev cX4_sideOf : ByteArray := prog_40_method_11_code
def yX4_sideOf : MethodName := ⟨RX4, "sideOf", "(III)I"⟩
def dkwX4_sideOf_1 : List UInt8 := [172]
abbrev dktX4_sideOf_1 : List UInt8 := dkwX4_sideOf_1 ++ []
def dkwX4_sideOf_0 : List UInt8 := [42, 27, 28, 42, 180, 0, 44, 180, 0, 85, 29, 46, 42, 180, 0, 44, 180, 0, 88, 29, 46, 182, 0, 91]
abbrev dktX4_sideOf_0 : List UInt8 := dkwX4_sideOf_0 ++ dktX4_sideOf_1
theorem dksX4_sideOf_0 : cX4_sideOf.data.toList.drop 0 = dktX4_sideOf_0 := by decide +kernel
theorem dksX4_sideOf_1 : cX4_sideOf.data.toList.drop 24 = dktX4_sideOf_1 := dk_seg dksX4_sideOf_0 24 rfl rfl
theorem dX4_sideOf_0 : decode cX4_sideOf 0 = .ok (.aload_n 0, 1) := dk_42 (dk_at dksX4_sideOf_0 0 rfl rfl)
theorem dX4_sideOf_1 : decode cX4_sideOf 1 = .ok (.iload_n 1, 1) := dk_27 (dk_at dksX4_sideOf_0 1 rfl rfl)
theorem dX4_sideOf_2 : decode cX4_sideOf 2 = .ok (.iload_n 2, 1) := dk_28 (dk_at dksX4_sideOf_0 2 rfl rfl)
theorem dX4_sideOf_3 : decode cX4_sideOf 3 = .ok (.aload_n 0, 1) := dk_42 (dk_at dksX4_sideOf_0 3 rfl rfl)
theorem dX4_sideOf_4 : decode cX4_sideOf 4 = .ok (.getfield 44, 3) := dk_180 0 44 (dk_at dksX4_sideOf_0 4 rfl rfl)
theorem dX4_sideOf_7 : decode cX4_sideOf 7 = .ok (.getfield 85, 3) := dk_180 0 85 (dk_at dksX4_sideOf_0 7 rfl rfl)
theorem dX4_sideOf_10 : decode cX4_sideOf 10 = .ok (.iload_n 3, 1) := dk_29 (dk_at dksX4_sideOf_0 10 rfl rfl)
theorem dX4_sideOf_11 : decode cX4_sideOf 11 = .ok (.iaload, 1) := dk_46 (dk_at dksX4_sideOf_0 11 rfl rfl)
theorem dX4_sideOf_12 : decode cX4_sideOf 12 = .ok (.aload_n 0, 1) := dk_42 (dk_at dksX4_sideOf_0 12 rfl rfl)
theorem dX4_sideOf_13 : decode cX4_sideOf 13 = .ok (.getfield 44, 3) := dk_180 0 44 (dk_at dksX4_sideOf_0 13 rfl rfl)
theorem dX4_sideOf_16 : decode cX4_sideOf 16 = .ok (.getfield 88, 3) := dk_180 0 88 (dk_at dksX4_sideOf_0 16 rfl rfl)
theorem dX4_sideOf_19 : decode cX4_sideOf 19 = .ok (.iload_n 3, 1) := dk_29 (dk_at dksX4_sideOf_0 19 rfl rfl)
theorem dX4_sideOf_20 : decode cX4_sideOf 20 = .ok (.iaload, 1) := dk_46 (dk_at dksX4_sideOf_0 20 rfl rfl)
theorem dX4_sideOf_21 : decode cX4_sideOf 21 = .ok (.invokevirtual 91, 3) := dk_182 0 91 (dk_at dksX4_sideOf_0 21 rfl rfl)
theorem dX4_sideOf_24 : decode cX4_sideOf 24 = .ok (.ireturn, 1) := dk_172 (dk_at dksX4_sideOf_1 0 rfl rfl)
abbrev cX4_side : ByteArray := prog_40_method_10_code
def yX4_side : MethodName := ⟨RX4, "side", "(IIII)I"⟩
def dkwX4_side_2 : List UInt8 := [180, 0, 88, 27, 46, 100, 29, 42, 180, 0, 44, 180, 0, 85, 27, 46, 100, 104, 100, 172]
abbrev dktX4_side_2 : List UInt8 := dkwX4_side_2 ++ []
def dkwX4_side_1 : List UInt8 := [180, 0, 44, 180, 0, 88, 27, 46, 100, 104, 42, 180, 0, 44, 180, 0, 88, 28, 46, 42, 180, 0, 44]
abbrev dktX4_side_1 : List UInt8 := dkwX4_side_1 ++ dktX4_side_2
def dkwX4_side_0 : List UInt8 := [42, 180, 0, 44, 180, 0, 85, 28, 46, 42, 180, 0, 44, 180, 0, 85, 27, 46, 100, 21, 4, 42]
abbrev dktX4_side_0 : List UInt8 := dkwX4_side_0 ++ dktX4_side_1
theorem dksX4_side_0 : cX4_side.data.toList.drop 0 = dktX4_side_0 := by decide +kernel
theorem dksX4_side_1 : cX4_side.data.toList.drop 22 = dktX4_side_1 := dk_seg dksX4_side_0 22 rfl rfl
theorem dksX4_side_2 : cX4_side.data.toList.drop 45 = dktX4_side_2 := dk_seg dksX4_side_1 23 rfl rfl
theorem dX4_side_0 : decode cX4_side 0 = .ok (.aload_n 0, 1) := dk_42 (dk_at dksX4_side_0 0 rfl rfl)
theorem dX4_side_1 : decode cX4_side 1 = .ok (.getfield 44, 3) := dk_180 0 44 (dk_at dksX4_side_0 1 rfl rfl)
theorem dX4_side_4 : decode cX4_side 4 = .ok (.getfield 85, 3) := dk_180 0 85 (dk_at dksX4_side_0 4 rfl rfl)
theorem dX4_side_7 : decode cX4_side 7 = .ok (.iload_n 2, 1) := dk_28 (dk_at dksX4_side_0 7 rfl rfl)
theorem dX4_side_8 : decode cX4_side 8 = .ok (.iaload, 1) := dk_46 (dk_at dksX4_side_0 8 rfl rfl)
theorem dX4_side_9 : decode cX4_side 9 = .ok (.aload_n 0, 1) := dk_42 (dk_at dksX4_side_0 9 rfl rfl)
theorem dX4_side_10 : decode cX4_side 10 = .ok (.getfield 44, 3) := dk_180 0 44 (dk_at dksX4_side_0 10 rfl rfl)
theorem dX4_side_13 : decode cX4_side 13 = .ok (.getfield 85, 3) := dk_180 0 85 (dk_at dksX4_side_0 13 rfl rfl)
theorem dX4_side_16 : decode cX4_side 16 = .ok (.iload_n 1, 1) := dk_27 (dk_at dksX4_side_0 16 rfl rfl)
theorem dX4_side_17 : decode cX4_side 17 = .ok (.iaload, 1) := dk_46 (dk_at dksX4_side_0 17 rfl rfl)
theorem dX4_side_18 : decode cX4_side 18 = .ok (.isub, 1) := dk_100 (dk_at dksX4_side_0 18 rfl rfl)
theorem dX4_side_19 : decode cX4_side 19 = .ok (.iload 4, 2) := dk_21 4 (dk_at dksX4_side_0 19 rfl rfl)
theorem dX4_side_21 : decode cX4_side 21 = .ok (.aload_n 0, 1) := dk_42 (dk_at dksX4_side_0 21 rfl rfl)
theorem dX4_side_22 : decode cX4_side 22 = .ok (.getfield 44, 3) := dk_180 0 44 (dk_at dksX4_side_1 0 rfl rfl)
theorem dX4_side_25 : decode cX4_side 25 = .ok (.getfield 88, 3) := dk_180 0 88 (dk_at dksX4_side_1 3 rfl rfl)
theorem dX4_side_28 : decode cX4_side 28 = .ok (.iload_n 1, 1) := dk_27 (dk_at dksX4_side_1 6 rfl rfl)
theorem dX4_side_29 : decode cX4_side 29 = .ok (.iaload, 1) := dk_46 (dk_at dksX4_side_1 7 rfl rfl)
theorem dX4_side_30 : decode cX4_side 30 = .ok (.isub, 1) := dk_100 (dk_at dksX4_side_1 8 rfl rfl)
theorem dX4_side_31 : decode cX4_side 31 = .ok (.imul, 1) := dk_104 (dk_at dksX4_side_1 9 rfl rfl)
theorem dX4_side_32 : decode cX4_side 32 = .ok (.aload_n 0, 1) := dk_42 (dk_at dksX4_side_1 10 rfl rfl)
theorem dX4_side_33 : decode cX4_side 33 = .ok (.getfield 44, 3) := dk_180 0 44 (dk_at dksX4_side_1 11 rfl rfl)
theorem dX4_side_36 : decode cX4_side 36 = .ok (.getfield 88, 3) := dk_180 0 88 (dk_at dksX4_side_1 14 rfl rfl)
theorem dX4_side_39 : decode cX4_side 39 = .ok (.iload_n 2, 1) := dk_28 (dk_at dksX4_side_1 17 rfl rfl)
theorem dX4_side_40 : decode cX4_side 40 = .ok (.iaload, 1) := dk_46 (dk_at dksX4_side_1 18 rfl rfl)
theorem dX4_side_41 : decode cX4_side 41 = .ok (.aload_n 0, 1) := dk_42 (dk_at dksX4_side_1 19 rfl rfl)
theorem dX4_side_42 : decode cX4_side 42 = .ok (.getfield 44, 3) := dk_180 0 44 (dk_at dksX4_side_1 20 rfl rfl)
theorem dX4_side_45 : decode cX4_side 45 = .ok (.getfield 88, 3) := dk_180 0 88 (dk_at dksX4_side_2 0 rfl rfl)
theorem dX4_side_48 : decode cX4_side 48 = .ok (.iload_n 1, 1) := dk_27 (dk_at dksX4_side_2 3 rfl rfl)
theorem dX4_side_49 : decode cX4_side 49 = .ok (.iaload, 1) := dk_46 (dk_at dksX4_side_2 4 rfl rfl)
theorem dX4_side_50 : decode cX4_side 50 = .ok (.isub, 1) := dk_100 (dk_at dksX4_side_2 5 rfl rfl)
theorem dX4_side_51 : decode cX4_side 51 = .ok (.iload_n 3, 1) := dk_29 (dk_at dksX4_side_2 6 rfl rfl)
theorem dX4_side_52 : decode cX4_side 52 = .ok (.aload_n 0, 1) := dk_42 (dk_at dksX4_side_2 7 rfl rfl)
theorem dX4_side_53 : decode cX4_side 53 = .ok (.getfield 44, 3) := dk_180 0 44 (dk_at dksX4_side_2 8 rfl rfl)
theorem dX4_side_56 : decode cX4_side 56 = .ok (.getfield 85, 3) := dk_180 0 85 (dk_at dksX4_side_2 11 rfl rfl)
theorem dX4_side_59 : decode cX4_side 59 = .ok (.iload_n 1, 1) := dk_27 (dk_at dksX4_side_2 14 rfl rfl)
theorem dX4_side_60 : decode cX4_side 60 = .ok (.iaload, 1) := dk_46 (dk_at dksX4_side_2 15 rfl rfl)
theorem dX4_side_61 : decode cX4_side 61 = .ok (.isub, 1) := dk_100 (dk_at dksX4_side_2 16 rfl rfl)
theorem dX4_side_62 : decode cX4_side 62 = .ok (.imul, 1) := dk_104 (dk_at dksX4_side_2 17 rfl rfl)
theorem dX4_side_63 : decode cX4_side 63 = .ok (.isub, 1) := dk_100 (dk_at dksX4_side_2 18 rfl rfl)
theorem dX4_side_64 : decode cX4_side 64 = .ok (.ireturn, 1) := dk_172 (dk_at dksX4_side_2 19 rfl rfl)
abbrev cX4_areApart : ByteArray := prog_40_method_14_code
def yX4_areApart : MethodName := ⟨RX4, "areApart", "(II)Z"⟩
def dkwX4_areApart_0 : List UInt8 := [26, 158, 0, 7, 27, 155, 0, 11, 26, 156, 0, 11, 27, 158, 0, 7, 4, 167, 0, 4, 3, 172]
abbrev dktX4_areApart_0 : List UInt8 := dkwX4_areApart_0 ++ []
theorem dksX4_areApart_0 : cX4_areApart.data.toList.drop 0 = dktX4_areApart_0 := by decide +kernel
theorem dX4_areApart_0 : decode cX4_areApart 0 = .ok (.iload_n 0, 1) := dk_26 (dk_at dksX4_areApart_0 0 rfl rfl)
theorem dX4_areApart_1 : decode cX4_areApart 1 = .ok (.ifCond .le 7, 3) := dk_158 0 7 (dk_at dksX4_areApart_0 1 rfl rfl)
theorem dX4_areApart_4 : decode cX4_areApart 4 = .ok (.iload_n 1, 1) := dk_27 (dk_at dksX4_areApart_0 4 rfl rfl)
theorem dX4_areApart_5 : decode cX4_areApart 5 = .ok (.ifCond .lt 11, 3) := dk_155 0 11 (dk_at dksX4_areApart_0 5 rfl rfl)
theorem dX4_areApart_8 : decode cX4_areApart 8 = .ok (.iload_n 0, 1) := dk_26 (dk_at dksX4_areApart_0 8 rfl rfl)
theorem dX4_areApart_9 : decode cX4_areApart 9 = .ok (.ifCond .ge 11, 3) := dk_156 0 11 (dk_at dksX4_areApart_0 9 rfl rfl)
theorem dX4_areApart_12 : decode cX4_areApart 12 = .ok (.iload_n 1, 1) := dk_27 (dk_at dksX4_areApart_0 12 rfl rfl)
theorem dX4_areApart_13 : decode cX4_areApart 13 = .ok (.ifCond .le 7, 3) := dk_158 0 7 (dk_at dksX4_areApart_0 13 rfl rfl)
theorem dX4_areApart_16 : decode cX4_areApart 16 = .ok (.iconst 1, 1) := dk_4 (dk_at dksX4_areApart_0 16 rfl rfl)
theorem dX4_areApart_17 : decode cX4_areApart 17 = .ok (.goto 4, 3) := dk_167 0 4 (dk_at dksX4_areApart_0 17 rfl rfl)
theorem dX4_areApart_20 : decode cX4_areApart 20 = .ok (.iconst 0, 1) := dk_3 (dk_at dksX4_areApart_0 20 rfl rfl)
theorem dX4_areApart_21 : decode cX4_areApart 21 = .ok (.ireturn, 1) := dk_172 (dk_at dksX4_areApart_0 21 rfl rfl)
abbrev cX4_held : ByteArray := prog_40_method_5_code
def yX4_held : MethodName := ⟨RX4, "held", "(J)I"⟩
def dkwX4_held_0 : List UInt8 := [20, 0, 53, 20, 0, 55, 30, 184, 0, 57, 184, 0, 63, 136, 172]
abbrev dktX4_held_0 : List UInt8 := dkwX4_held_0 ++ []
theorem dksX4_held_0 : cX4_held.data.toList.drop 0 = dktX4_held_0 := by decide +kernel
theorem dX4_held_0 : decode cX4_held 0 = .ok (.ldc2_w 53, 3) := dk_20 0 53 (dk_at dksX4_held_0 0 rfl rfl)
theorem dX4_held_3 : decode cX4_held 3 = .ok (.ldc2_w 55, 3) := dk_20 0 55 (dk_at dksX4_held_0 3 rfl rfl)
theorem dX4_held_6 : decode cX4_held 6 = .ok (.lload_n 0, 1) := dk_30 (dk_at dksX4_held_0 6 rfl rfl)
theorem dX4_held_7 : decode cX4_held 7 = .ok (.invokestatic 57, 3) := dk_184 0 57 (dk_at dksX4_held_0 7 rfl rfl)
theorem dX4_held_10 : decode cX4_held 10 = .ok (.invokestatic 63, 3) := dk_184 0 63 (dk_at dksX4_held_0 10 rfl rfl)
theorem dX4_held_13 : decode cX4_held 13 = .ok (.l2i, 1) := dk_136 (dk_at dksX4_held_0 13 rfl rfl)
theorem dX4_held_14 : decode cX4_held 14 = .ok (.ireturn, 1) := dk_172 (dk_at dksX4_held_0 14 rfl rfl)
abbrev cX4_errorAt : ByteArray := prog_40_method_75_code
def yX4_errorAt : MethodName := ⟨RX4, "errorAt", "()I"⟩
def dkwX4_errorAt_0 : List UInt8 := [42, 3, 181, 0, 50, 42, 180, 0, 13, 172]
abbrev dktX4_errorAt_0 : List UInt8 := dkwX4_errorAt_0 ++ []
theorem dksX4_errorAt_0 : cX4_errorAt.data.toList.drop 0 = dktX4_errorAt_0 := by decide +kernel
theorem dX4_errorAt_0 : decode cX4_errorAt 0 = .ok (.aload_n 0, 1) := dk_42 (dk_at dksX4_errorAt_0 0 rfl rfl)
theorem dX4_errorAt_1 : decode cX4_errorAt 1 = .ok (.iconst 0, 1) := dk_3 (dk_at dksX4_errorAt_0 1 rfl rfl)
theorem dX4_errorAt_2 : decode cX4_errorAt 2 = .ok (.putfield 50, 3) := dk_181 0 50 (dk_at dksX4_errorAt_0 2 rfl rfl)
theorem dX4_errorAt_5 : decode cX4_errorAt 5 = .ok (.aload_n 0, 1) := dk_42 (dk_at dksX4_errorAt_0 5 rfl rfl)
theorem dX4_errorAt_6 : decode cX4_errorAt 6 = .ok (.getfield 13, 3) := dk_180 0 13 (dk_at dksX4_errorAt_0 6 rfl rfl)
theorem dX4_errorAt_9 : decode cX4_errorAt 9 = .ok (.ireturn, 1) := dk_172 (dk_at dksX4_errorAt_0 9 rfl rfl)
abbrev cX4_count : ByteArray := prog_40_method_81_code
def yX4_count : MethodName := ⟨RX4, "count", "(I)I"⟩
def dkwX4_count_1 : List UInt8 := [180, 0, 27, 182, 1, 144, 42, 27, 182, 1, 147, 172]
abbrev dktX4_count_1 : List UInt8 := dkwX4_count_1 ++ []
def dkwX4_count_0 : List UInt8 := [42, 3, 181, 0, 50, 27, 3, 16, 8, 184, 0, 69, 154, 0, 9, 42, 4, 182, 1, 122, 172, 42, 42]
abbrev dktX4_count_0 : List UInt8 := dkwX4_count_0 ++ dktX4_count_1
theorem dksX4_count_0 : cX4_count.data.toList.drop 0 = dktX4_count_0 := by decide +kernel
theorem dksX4_count_1 : cX4_count.data.toList.drop 23 = dktX4_count_1 := dk_seg dksX4_count_0 23 rfl rfl
theorem dX4_count_0 : decode cX4_count 0 = .ok (.aload_n 0, 1) := dk_42 (dk_at dksX4_count_0 0 rfl rfl)
theorem dX4_count_1 : decode cX4_count 1 = .ok (.iconst 0, 1) := dk_3 (dk_at dksX4_count_0 1 rfl rfl)
theorem dX4_count_2 : decode cX4_count 2 = .ok (.putfield 50, 3) := dk_181 0 50 (dk_at dksX4_count_0 2 rfl rfl)
theorem dX4_count_5 : decode cX4_count 5 = .ok (.iload_n 1, 1) := dk_27 (dk_at dksX4_count_0 5 rfl rfl)
theorem dX4_count_6 : decode cX4_count 6 = .ok (.iconst 0, 1) := dk_3 (dk_at dksX4_count_0 6 rfl rfl)
theorem dX4_count_7 : decode cX4_count 7 = .ok (.bipush 8, 2) := dk_16 8 (dk_at dksX4_count_0 7 rfl rfl)
theorem dX4_count_9 : decode cX4_count 9 = .ok (.invokestatic 69, 3) := dk_184 0 69 (dk_at dksX4_count_0 9 rfl rfl)
theorem dX4_count_12 : decode cX4_count 12 = .ok (.ifCond .ne 9, 3) := dk_154 0 9 (dk_at dksX4_count_0 12 rfl rfl)
theorem dX4_count_15 : decode cX4_count 15 = .ok (.aload_n 0, 1) := dk_42 (dk_at dksX4_count_0 15 rfl rfl)
theorem dX4_count_16 : decode cX4_count 16 = .ok (.iconst 1, 1) := dk_4 (dk_at dksX4_count_0 16 rfl rfl)
theorem dX4_count_17 : decode cX4_count 17 = .ok (.invokevirtual 378, 3) := dk_182 1 122 (dk_at dksX4_count_0 17 rfl rfl)
theorem dX4_count_20 : decode cX4_count 20 = .ok (.ireturn, 1) := dk_172 (dk_at dksX4_count_0 20 rfl rfl)
theorem dX4_count_21 : decode cX4_count 21 = .ok (.aload_n 0, 1) := dk_42 (dk_at dksX4_count_0 21 rfl rfl)
theorem dX4_count_22 : decode cX4_count 22 = .ok (.aload_n 0, 1) := dk_42 (dk_at dksX4_count_0 22 rfl rfl)
theorem dX4_count_23 : decode cX4_count 23 = .ok (.getfield 27, 3) := dk_180 0 27 (dk_at dksX4_count_1 0 rfl rfl)
theorem dX4_count_26 : decode cX4_count 26 = .ok (.invokevirtual 400, 3) := dk_182 1 144 (dk_at dksX4_count_1 3 rfl rfl)
theorem dX4_count_29 : decode cX4_count 29 = .ok (.aload_n 0, 1) := dk_42 (dk_at dksX4_count_1 6 rfl rfl)
theorem dX4_count_30 : decode cX4_count 30 = .ok (.iload_n 1, 1) := dk_27 (dk_at dksX4_count_1 7 rfl rfl)
theorem dX4_count_31 : decode cX4_count 31 = .ok (.invokevirtual 403, 3) := dk_182 1 147 (dk_at dksX4_count_1 8 rfl rfl)
theorem dX4_count_34 : decode cX4_count 34 = .ok (.ireturn, 1) := dk_172 (dk_at dksX4_count_1 11 rfl rfl)
abbrev cX4_look : ByteArray := prog_40_method_28_code
def yX4_look : MethodName := ⟨RX4, "look", "(LGridTableModel$Places;)V"⟩
def dkwX4_look_0 : List UInt8 := [42, 42, 180, 0, 20, 181, 0, 41, 42, 43, 181, 0, 44, 177]
abbrev dktX4_look_0 : List UInt8 := dkwX4_look_0 ++ []
theorem dksX4_look_0 : cX4_look.data.toList.drop 0 = dktX4_look_0 := by decide +kernel
theorem dX4_look_0 : decode cX4_look 0 = .ok (.aload_n 0, 1) := dk_42 (dk_at dksX4_look_0 0 rfl rfl)
theorem dX4_look_1 : decode cX4_look 1 = .ok (.aload_n 0, 1) := dk_42 (dk_at dksX4_look_0 1 rfl rfl)
theorem dX4_look_2 : decode cX4_look 2 = .ok (.getfield 20, 3) := dk_180 0 20 (dk_at dksX4_look_0 2 rfl rfl)
theorem dX4_look_5 : decode cX4_look 5 = .ok (.putfield 41, 3) := dk_181 0 41 (dk_at dksX4_look_0 5 rfl rfl)
theorem dX4_look_8 : decode cX4_look 8 = .ok (.aload_n 0, 1) := dk_42 (dk_at dksX4_look_0 8 rfl rfl)
theorem dX4_look_9 : decode cX4_look 9 = .ok (.aload_n 1, 1) := dk_43 (dk_at dksX4_look_0 9 rfl rfl)
theorem dX4_look_10 : decode cX4_look 10 = .ok (.putfield 44, 3) := dk_181 0 44 (dk_at dksX4_look_0 10 rfl rfl)
theorem dX4_look_13 : decode cX4_look 13 = .ok (.return_, 1) := dk_177 (dk_at dksX4_look_0 13 rfl rfl)
