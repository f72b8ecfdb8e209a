/-! java/util/HashMap -/
set_option maxRecDepth 100000
def RJ22 : String := "java/util/HashMap"
def TJ22 : u_T := fun k => match k with
  | 0 => ("java/util/AbstractMap", "keySet", "Ljava/util/Set;", false)
  | 1 => ("java/util/AbstractMap", "values", "Ljava/util/Collection;", false)
  | 2 => ("java/util/HashMap", "table", "[Ljava/util/HashMap$Node;", false)
  | 3 => ("java/util/HashMap", "entrySet", "Ljava/util/Set;", false)
  | 4 => ("java/util/HashMap", "size", "I", false)
  | 5 => ("java/util/HashMap", "modCount", "I", false)
  | 6 => ("java/util/HashMap", "threshold", "I", false)
  | _ => ("java/util/HashMap", "loadFactor", "F", true)
def tyJ22 : Nat → FieldType := fun k => match k with
  | 0 => .object "java/util/Set"
  | 1 => .object "java/util/Collection"
  | 2 => .array (.object "java/util/HashMap$Node")
  | 3 => .object "java/util/Set"
  | 4 => .int
  | 5 => .int
  | 6 => .int
  | _ => .float
abbrev wsJ220 : List Cond := u_ws RJ22 TJ22 8
theorem nmJ22 : ∀ a, a < 8 → ∀ b, b < 8 → a ≠ b → (TJ22 a).2.1 ≠ (TJ22 b).2.1 := by decide +kernel
theorem tyJ22_ok : ∀ k, k < 8 → parseFieldDescriptor (TJ22 k).2.2.1 = some (tyJ22 k) := by decide +kernel
abbrev cJ22_init : ByteArray := prog_79_method_7_code
def yJ22_init : MethodName := ⟨RJ22, "<init>", "()V"⟩
def dkwJ22_init_0 : List UInt8 := [42, 183, 0, 43, 42, 18, 92, 181, 0, 81, 177]
abbrev dktJ22_init_0 : List UInt8 := dkwJ22_init_0 ++ []
theorem dksJ22_init_0 : cJ22_init.data.toList.drop 0 = dktJ22_init_0 := by decide +kernel
theorem dJ22_init_0 : decode cJ22_init 0 = .ok (.aload_n 0, 1) := dk_42 (dk_at dksJ22_init_0 0 rfl rfl)
theorem dJ22_init_1 : decode cJ22_init 1 = .ok (.invokespecial 43, 3) := dk_183 0 43 (dk_at dksJ22_init_0 1 rfl rfl)
theorem dJ22_init_4 : decode cJ22_init 4 = .ok (.aload_n 0, 1) := dk_42 (dk_at dksJ22_init_0 4 rfl rfl)
theorem dJ22_init_5 : decode cJ22_init 5 = .ok (.ldc 92, 2) := dk_18 92 (dk_at dksJ22_init_0 5 rfl rfl)
theorem dJ22_init_7 : decode cJ22_init 7 = .ok (.putfield 81, 3) := dk_181 0 81 (dk_at dksJ22_init_0 7 rfl rfl)
theorem dJ22_init_10 : decode cJ22_init 10 = .ok (.return_, 1) := dk_177 (dk_at dksJ22_init_0 10 rfl rfl)
abbrev cJ22_containsKey : ByteArray := prog_79_method_14_code
def yJ22_containsKey : MethodName := ⟨RJ22, "containsKey", "(Ljava/lang/Object;)Z"⟩
def dkwJ22_containsKey_0 : List UInt8 := [42, 43, 182, 0, 158, 198, 0, 7, 4, 167, 0, 4, 3, 172]
abbrev dktJ22_containsKey_0 : List UInt8 := dkwJ22_containsKey_0 ++ []
theorem dksJ22_containsKey_0 : cJ22_containsKey.data.toList.drop 0 = dktJ22_containsKey_0 := by decide +kernel
theorem dJ22_containsKey_0 : decode cJ22_containsKey 0 = .ok (.aload_n 0, 1) := dk_42 (dk_at dksJ22_containsKey_0 0 rfl rfl)
theorem dJ22_containsKey_1 : decode cJ22_containsKey 1 = .ok (.aload_n 1, 1) := dk_43 (dk_at dksJ22_containsKey_0 1 rfl rfl)
theorem dJ22_containsKey_2 : decode cJ22_containsKey 2 = .ok (.invokevirtual 158, 3) := dk_182 0 158 (dk_at dksJ22_containsKey_0 2 rfl rfl)
theorem dJ22_containsKey_5 : decode cJ22_containsKey 5 = .ok (.ifnull 7, 3) := dk_198 0 7 (dk_at dksJ22_containsKey_0 5 rfl rfl)
theorem dJ22_containsKey_8 : decode cJ22_containsKey 8 = .ok (.iconst 1, 1) := dk_4 (dk_at dksJ22_containsKey_0 8 rfl rfl)
theorem dJ22_containsKey_9 : decode cJ22_containsKey 9 = .ok (.goto 4, 3) := dk_167 0 4 (dk_at dksJ22_containsKey_0 9 rfl rfl)
theorem dJ22_containsKey_12 : decode cJ22_containsKey 12 = .ok (.iconst 0, 1) := dk_3 (dk_at dksJ22_containsKey_0 12 rfl rfl)
theorem dJ22_containsKey_13 : decode cJ22_containsKey 13 = .ok (.ireturn, 1) := dk_172 (dk_at dksJ22_containsKey_0 13 rfl rfl)
abbrev cJ22_getNode : ByteArray := prog_79_method_13_code
def yJ22_getNode : MethodName := ⟨RJ22, "getNode", "(Ljava/lang/Object;)Ljava/util/HashMap$Node;"⟩
def dkwJ22_getNode_6 : List UInt8 := [89, 58, 4, 199, 255, 210, 1, 176]
abbrev dktJ22_getNode_6 : List UInt8 := dkwJ22_getNode_6 ++ []
def dkwJ22_getNode_5 : List UInt8 := [165, 0, 16, 43, 198, 0, 15, 43, 25, 7, 182, 0, 173, 153, 0, 6, 25, 4, 176, 25, 4, 180, 0, 177]
abbrev dktJ22_getNode_5 : List UInt8 := dkwJ22_getNode_5 ++ dktJ22_getNode_6
def dkwJ22_getNode_4 : List UInt8 := [43, 182, 0, 182, 176, 25, 4, 180, 0, 168, 21, 6, 160, 0, 31, 25, 4, 180, 0, 170, 89, 58, 7, 43]
abbrev dktJ22_getNode_4 : List UInt8 := dkwJ22_getNode_4 ++ dktJ22_getNode_5
def dkwJ22_getNode_3 : List UInt8 := [176, 45, 180, 0, 177, 89, 58, 4, 198, 0, 70, 45, 193, 0, 180, 153, 0, 14, 45, 192, 0, 180, 21, 6]
abbrev dktJ22_getNode_3 : List UInt8 := dkwJ22_getNode_3 ++ dktJ22_getNode_4
def dkwJ22_getNode_2 : List UInt8 := [180, 0, 170, 89, 58, 7, 43, 165, 0, 16, 43, 198, 0, 14, 43, 25, 7, 182, 0, 173, 153, 0, 5, 45]
abbrev dktJ22_getNode_2 : List UInt8 := dkwJ22_getNode_2 ++ dktJ22_getNode_3
def dkwJ22_getNode_1 : List UInt8 := [184, 0, 149, 89, 54, 6, 126, 50, 89, 78, 198, 0, 115, 45, 180, 0, 168, 21, 6, 160, 0, 29, 45]
abbrev dktJ22_getNode_1 : List UInt8 := dkwJ22_getNode_1 ++ dktJ22_getNode_2
def dkwJ22_getNode_0 : List UInt8 := [42, 180, 0, 105, 89, 77, 198, 0, 142, 44, 190, 89, 54, 5, 158, 0, 134, 44, 21, 5, 4, 100, 43]
abbrev dktJ22_getNode_0 : List UInt8 := dkwJ22_getNode_0 ++ dktJ22_getNode_1
theorem dksJ22_getNode_0 : cJ22_getNode.data.toList.drop 0 = dktJ22_getNode_0 := by decide +kernel
theorem dksJ22_getNode_1 : cJ22_getNode.data.toList.drop 23 = dktJ22_getNode_1 := dk_seg dksJ22_getNode_0 23 rfl rfl
theorem dksJ22_getNode_2 : cJ22_getNode.data.toList.drop 46 = dktJ22_getNode_2 := dk_seg dksJ22_getNode_1 23 rfl rfl
theorem dksJ22_getNode_3 : cJ22_getNode.data.toList.drop 70 = dktJ22_getNode_3 := dk_seg dksJ22_getNode_2 24 rfl rfl
theorem dksJ22_getNode_4 : cJ22_getNode.data.toList.drop 94 = dktJ22_getNode_4 := dk_seg dksJ22_getNode_3 24 rfl rfl
theorem dksJ22_getNode_5 : cJ22_getNode.data.toList.drop 118 = dktJ22_getNode_5 := dk_seg dksJ22_getNode_4 24 rfl rfl
theorem dksJ22_getNode_6 : cJ22_getNode.data.toList.drop 142 = dktJ22_getNode_6 := dk_seg dksJ22_getNode_5 24 rfl rfl
theorem dJ22_getNode_0 : decode cJ22_getNode 0 = .ok (.aload_n 0, 1) := dk_42 (dk_at dksJ22_getNode_0 0 rfl rfl)
theorem dJ22_getNode_1 : decode cJ22_getNode 1 = .ok (.getfield 105, 3) := dk_180 0 105 (dk_at dksJ22_getNode_0 1 rfl rfl)
theorem dJ22_getNode_4 : decode cJ22_getNode 4 = .ok (.dup, 1) := dk_89 (dk_at dksJ22_getNode_0 4 rfl rfl)
theorem dJ22_getNode_5 : decode cJ22_getNode 5 = .ok (.astore_n 2, 1) := dk_77 (dk_at dksJ22_getNode_0 5 rfl rfl)
theorem dJ22_getNode_6 : decode cJ22_getNode 6 = .ok (.ifnull 142, 3) := dk_198 0 142 (dk_at dksJ22_getNode_0 6 rfl rfl)
theorem dJ22_getNode_9 : decode cJ22_getNode 9 = .ok (.aload_n 2, 1) := dk_44 (dk_at dksJ22_getNode_0 9 rfl rfl)
theorem dJ22_getNode_10 : decode cJ22_getNode 10 = .ok (.arraylength, 1) := dk_190 (dk_at dksJ22_getNode_0 10 rfl rfl)
theorem dJ22_getNode_11 : decode cJ22_getNode 11 = .ok (.dup, 1) := dk_89 (dk_at dksJ22_getNode_0 11 rfl rfl)
theorem dJ22_getNode_12 : decode cJ22_getNode 12 = .ok (.istore 5, 2) := dk_54 5 (dk_at dksJ22_getNode_0 12 rfl rfl)
theorem dJ22_getNode_14 : decode cJ22_getNode 14 = .ok (.ifCond .le 134, 3) := dk_158 0 134 (dk_at dksJ22_getNode_0 14 rfl rfl)
theorem dJ22_getNode_17 : decode cJ22_getNode 17 = .ok (.aload_n 2, 1) := dk_44 (dk_at dksJ22_getNode_0 17 rfl rfl)
theorem dJ22_getNode_18 : decode cJ22_getNode 18 = .ok (.iload 5, 2) := dk_21 5 (dk_at dksJ22_getNode_0 18 rfl rfl)
theorem dJ22_getNode_20 : decode cJ22_getNode 20 = .ok (.iconst 1, 1) := dk_4 (dk_at dksJ22_getNode_0 20 rfl rfl)
theorem dJ22_getNode_21 : decode cJ22_getNode 21 = .ok (.isub, 1) := dk_100 (dk_at dksJ22_getNode_0 21 rfl rfl)
theorem dJ22_getNode_22 : decode cJ22_getNode 22 = .ok (.aload_n 1, 1) := dk_43 (dk_at dksJ22_getNode_0 22 rfl rfl)
theorem dJ22_getNode_23 : decode cJ22_getNode 23 = .ok (.invokestatic 149, 3) := dk_184 0 149 (dk_at dksJ22_getNode_1 0 rfl rfl)
theorem dJ22_getNode_26 : decode cJ22_getNode 26 = .ok (.dup, 1) := dk_89 (dk_at dksJ22_getNode_1 3 rfl rfl)
theorem dJ22_getNode_27 : decode cJ22_getNode 27 = .ok (.istore 6, 2) := dk_54 6 (dk_at dksJ22_getNode_1 4 rfl rfl)
theorem dJ22_getNode_29 : decode cJ22_getNode 29 = .ok (.iand, 1) := dk_126 (dk_at dksJ22_getNode_1 6 rfl rfl)
theorem dJ22_getNode_30 : decode cJ22_getNode 30 = .ok (.aaload, 1) := dk_50 (dk_at dksJ22_getNode_1 7 rfl rfl)
theorem dJ22_getNode_31 : decode cJ22_getNode 31 = .ok (.dup, 1) := dk_89 (dk_at dksJ22_getNode_1 8 rfl rfl)
theorem dJ22_getNode_32 : decode cJ22_getNode 32 = .ok (.astore_n 3, 1) := dk_78 (dk_at dksJ22_getNode_1 9 rfl rfl)
theorem dJ22_getNode_33 : decode cJ22_getNode 33 = .ok (.ifnull 115, 3) := dk_198 0 115 (dk_at dksJ22_getNode_1 10 rfl rfl)
theorem dJ22_getNode_36 : decode cJ22_getNode 36 = .ok (.aload_n 3, 1) := dk_45 (dk_at dksJ22_getNode_1 13 rfl rfl)
theorem dJ22_getNode_37 : decode cJ22_getNode 37 = .ok (.getfield 168, 3) := dk_180 0 168 (dk_at dksJ22_getNode_1 14 rfl rfl)
theorem dJ22_getNode_40 : decode cJ22_getNode 40 = .ok (.iload 6, 2) := dk_21 6 (dk_at dksJ22_getNode_1 17 rfl rfl)
theorem dJ22_getNode_42 : decode cJ22_getNode 42 = .ok (.if_icmp .ne 29, 3) := dk_160 0 29 (dk_at dksJ22_getNode_1 19 rfl rfl)
theorem dJ22_getNode_45 : decode cJ22_getNode 45 = .ok (.aload_n 3, 1) := dk_45 (dk_at dksJ22_getNode_1 22 rfl rfl)
theorem dJ22_getNode_46 : decode cJ22_getNode 46 = .ok (.getfield 170, 3) := dk_180 0 170 (dk_at dksJ22_getNode_2 0 rfl rfl)
theorem dJ22_getNode_49 : decode cJ22_getNode 49 = .ok (.dup, 1) := dk_89 (dk_at dksJ22_getNode_2 3 rfl rfl)
theorem dJ22_getNode_50 : decode cJ22_getNode 50 = .ok (.astore 7, 2) := dk_58 7 (dk_at dksJ22_getNode_2 4 rfl rfl)
theorem dJ22_getNode_52 : decode cJ22_getNode 52 = .ok (.aload_n 1, 1) := dk_43 (dk_at dksJ22_getNode_2 6 rfl rfl)
theorem dJ22_getNode_53 : decode cJ22_getNode 53 = .ok (.if_acmp .eq 16, 3) := dk_165 0 16 (dk_at dksJ22_getNode_2 7 rfl rfl)
theorem dJ22_getNode_56 : decode cJ22_getNode 56 = .ok (.aload_n 1, 1) := dk_43 (dk_at dksJ22_getNode_2 10 rfl rfl)
theorem dJ22_getNode_57 : decode cJ22_getNode 57 = .ok (.ifnull 14, 3) := dk_198 0 14 (dk_at dksJ22_getNode_2 11 rfl rfl)
theorem dJ22_getNode_60 : decode cJ22_getNode 60 = .ok (.aload_n 1, 1) := dk_43 (dk_at dksJ22_getNode_2 14 rfl rfl)
theorem dJ22_getNode_61 : decode cJ22_getNode 61 = .ok (.aload 7, 2) := dk_25 7 (dk_at dksJ22_getNode_2 15 rfl rfl)
theorem dJ22_getNode_63 : decode cJ22_getNode 63 = .ok (.invokevirtual 173, 3) := dk_182 0 173 (dk_at dksJ22_getNode_2 17 rfl rfl)
theorem dJ22_getNode_66 : decode cJ22_getNode 66 = .ok (.ifCond .eq 5, 3) := dk_153 0 5 (dk_at dksJ22_getNode_2 20 rfl rfl)
theorem dJ22_getNode_69 : decode cJ22_getNode 69 = .ok (.aload_n 3, 1) := dk_45 (dk_at dksJ22_getNode_2 23 rfl rfl)
theorem dJ22_getNode_70 : decode cJ22_getNode 70 = .ok (.areturn, 1) := dk_176 (dk_at dksJ22_getNode_3 0 rfl rfl)
theorem dJ22_getNode_71 : decode cJ22_getNode 71 = .ok (.aload_n 3, 1) := dk_45 (dk_at dksJ22_getNode_3 1 rfl rfl)
theorem dJ22_getNode_72 : decode cJ22_getNode 72 = .ok (.getfield 177, 3) := dk_180 0 177 (dk_at dksJ22_getNode_3 2 rfl rfl)
theorem dJ22_getNode_75 : decode cJ22_getNode 75 = .ok (.dup, 1) := dk_89 (dk_at dksJ22_getNode_3 5 rfl rfl)
theorem dJ22_getNode_76 : decode cJ22_getNode 76 = .ok (.astore 4, 2) := dk_58 4 (dk_at dksJ22_getNode_3 6 rfl rfl)
theorem dJ22_getNode_78 : decode cJ22_getNode 78 = .ok (.ifnull 70, 3) := dk_198 0 70 (dk_at dksJ22_getNode_3 8 rfl rfl)
theorem dJ22_getNode_81 : decode cJ22_getNode 81 = .ok (.aload_n 3, 1) := dk_45 (dk_at dksJ22_getNode_3 11 rfl rfl)
theorem dJ22_getNode_82 : decode cJ22_getNode 82 = .ok (.instanceof 180, 3) := dk_193 0 180 (dk_at dksJ22_getNode_3 12 rfl rfl)
theorem dJ22_getNode_85 : decode cJ22_getNode 85 = .ok (.ifCond .eq 14, 3) := dk_153 0 14 (dk_at dksJ22_getNode_3 15 rfl rfl)
theorem dJ22_getNode_88 : decode cJ22_getNode 88 = .ok (.aload_n 3, 1) := dk_45 (dk_at dksJ22_getNode_3 18 rfl rfl)
theorem dJ22_getNode_89 : decode cJ22_getNode 89 = .ok (.checkcast 180, 3) := dk_192 0 180 (dk_at dksJ22_getNode_3 19 rfl rfl)
theorem dJ22_getNode_92 : decode cJ22_getNode 92 = .ok (.iload 6, 2) := dk_21 6 (dk_at dksJ22_getNode_3 22 rfl rfl)
theorem dJ22_getNode_94 : decode cJ22_getNode 94 = .ok (.aload_n 1, 1) := dk_43 (dk_at dksJ22_getNode_4 0 rfl rfl)
theorem dJ22_getNode_95 : decode cJ22_getNode 95 = .ok (.invokevirtual 182, 3) := dk_182 0 182 (dk_at dksJ22_getNode_4 1 rfl rfl)
theorem dJ22_getNode_98 : decode cJ22_getNode 98 = .ok (.areturn, 1) := dk_176 (dk_at dksJ22_getNode_4 4 rfl rfl)
theorem dJ22_getNode_99 : decode cJ22_getNode 99 = .ok (.aload 4, 2) := dk_25 4 (dk_at dksJ22_getNode_4 5 rfl rfl)
theorem dJ22_getNode_101 : decode cJ22_getNode 101 = .ok (.getfield 168, 3) := dk_180 0 168 (dk_at dksJ22_getNode_4 7 rfl rfl)
theorem dJ22_getNode_104 : decode cJ22_getNode 104 = .ok (.iload 6, 2) := dk_21 6 (dk_at dksJ22_getNode_4 10 rfl rfl)
theorem dJ22_getNode_106 : decode cJ22_getNode 106 = .ok (.if_icmp .ne 31, 3) := dk_160 0 31 (dk_at dksJ22_getNode_4 12 rfl rfl)
theorem dJ22_getNode_109 : decode cJ22_getNode 109 = .ok (.aload 4, 2) := dk_25 4 (dk_at dksJ22_getNode_4 15 rfl rfl)
theorem dJ22_getNode_111 : decode cJ22_getNode 111 = .ok (.getfield 170, 3) := dk_180 0 170 (dk_at dksJ22_getNode_4 17 rfl rfl)
theorem dJ22_getNode_114 : decode cJ22_getNode 114 = .ok (.dup, 1) := dk_89 (dk_at dksJ22_getNode_4 20 rfl rfl)
theorem dJ22_getNode_115 : decode cJ22_getNode 115 = .ok (.astore 7, 2) := dk_58 7 (dk_at dksJ22_getNode_4 21 rfl rfl)
theorem dJ22_getNode_117 : decode cJ22_getNode 117 = .ok (.aload_n 1, 1) := dk_43 (dk_at dksJ22_getNode_4 23 rfl rfl)
theorem dJ22_getNode_118 : decode cJ22_getNode 118 = .ok (.if_acmp .eq 16, 3) := dk_165 0 16 (dk_at dksJ22_getNode_5 0 rfl rfl)
theorem dJ22_getNode_121 : decode cJ22_getNode 121 = .ok (.aload_n 1, 1) := dk_43 (dk_at dksJ22_getNode_5 3 rfl rfl)
theorem dJ22_getNode_122 : decode cJ22_getNode 122 = .ok (.ifnull 15, 3) := dk_198 0 15 (dk_at dksJ22_getNode_5 4 rfl rfl)
theorem dJ22_getNode_125 : decode cJ22_getNode 125 = .ok (.aload_n 1, 1) := dk_43 (dk_at dksJ22_getNode_5 7 rfl rfl)
theorem dJ22_getNode_126 : decode cJ22_getNode 126 = .ok (.aload 7, 2) := dk_25 7 (dk_at dksJ22_getNode_5 8 rfl rfl)
theorem dJ22_getNode_128 : decode cJ22_getNode 128 = .ok (.invokevirtual 173, 3) := dk_182 0 173 (dk_at dksJ22_getNode_5 10 rfl rfl)
theorem dJ22_getNode_131 : decode cJ22_getNode 131 = .ok (.ifCond .eq 6, 3) := dk_153 0 6 (dk_at dksJ22_getNode_5 13 rfl rfl)
theorem dJ22_getNode_134 : decode cJ22_getNode 134 = .ok (.aload 4, 2) := dk_25 4 (dk_at dksJ22_getNode_5 16 rfl rfl)
theorem dJ22_getNode_136 : decode cJ22_getNode 136 = .ok (.areturn, 1) := dk_176 (dk_at dksJ22_getNode_5 18 rfl rfl)
theorem dJ22_getNode_137 : decode cJ22_getNode 137 = .ok (.aload 4, 2) := dk_25 4 (dk_at dksJ22_getNode_5 19 rfl rfl)
theorem dJ22_getNode_139 : decode cJ22_getNode 139 = .ok (.getfield 177, 3) := dk_180 0 177 (dk_at dksJ22_getNode_5 21 rfl rfl)
theorem dJ22_getNode_142 : decode cJ22_getNode 142 = .ok (.dup, 1) := dk_89 (dk_at dksJ22_getNode_6 0 rfl rfl)
theorem dJ22_getNode_143 : decode cJ22_getNode 143 = .ok (.astore 4, 2) := dk_58 4 (dk_at dksJ22_getNode_6 1 rfl rfl)
theorem dJ22_getNode_145 : decode cJ22_getNode 145 = .ok (.ifnonnull (-46), 3) := dk_199 255 210 (dk_at dksJ22_getNode_6 3 rfl rfl)
theorem dJ22_getNode_148 : decode cJ22_getNode 148 = .ok (.aconst_null, 1) := dk_1 (dk_at dksJ22_getNode_6 6 rfl rfl)
theorem dJ22_getNode_149 : decode cJ22_getNode 149 = .ok (.areturn, 1) := dk_176 (dk_at dksJ22_getNode_6 7 rfl rfl)
abbrev cJ22_hash : ByteArray := prog_79_method_1_code
def yJ22_hash : MethodName := ⟨RJ22, "hash", "(Ljava/lang/Object;)I"⟩
def dkwJ22_hash_0 : List UInt8 := [42, 199, 0, 7, 3, 167, 0, 14, 42, 182, 0, 1, 89, 60, 27, 16, 16, 124, 130, 172]
abbrev dktJ22_hash_0 : List UInt8 := dkwJ22_hash_0 ++ []
theorem dksJ22_hash_0 : cJ22_hash.data.toList.drop 0 = dktJ22_hash_0 := by decide +kernel
theorem dJ22_hash_0 : decode cJ22_hash 0 = .ok (.aload_n 0, 1) := dk_42 (dk_at dksJ22_hash_0 0 rfl rfl)
theorem dJ22_hash_1 : decode cJ22_hash 1 = .ok (.ifnonnull 7, 3) := dk_199 0 7 (dk_at dksJ22_hash_0 1 rfl rfl)
theorem dJ22_hash_4 : decode cJ22_hash 4 = .ok (.iconst 0, 1) := dk_3 (dk_at dksJ22_hash_0 4 rfl rfl)
theorem dJ22_hash_5 : decode cJ22_hash 5 = .ok (.goto 14, 3) := dk_167 0 14 (dk_at dksJ22_hash_0 5 rfl rfl)
theorem dJ22_hash_8 : decode cJ22_hash 8 = .ok (.aload_n 0, 1) := dk_42 (dk_at dksJ22_hash_0 8 rfl rfl)
theorem dJ22_hash_9 : decode cJ22_hash 9 = .ok (.invokevirtual 1, 3) := dk_182 0 1 (dk_at dksJ22_hash_0 9 rfl rfl)
theorem dJ22_hash_12 : decode cJ22_hash 12 = .ok (.dup, 1) := dk_89 (dk_at dksJ22_hash_0 12 rfl rfl)
theorem dJ22_hash_13 : decode cJ22_hash 13 = .ok (.istore_n 1, 1) := dk_60 (dk_at dksJ22_hash_0 13 rfl rfl)
theorem dJ22_hash_14 : decode cJ22_hash 14 = .ok (.iload_n 1, 1) := dk_27 (dk_at dksJ22_hash_0 14 rfl rfl)
theorem dJ22_hash_15 : decode cJ22_hash 15 = .ok (.bipush 16, 2) := dk_16 16 (dk_at dksJ22_hash_0 15 rfl rfl)
theorem dJ22_hash_17 : decode cJ22_hash 17 = .ok (.iushr, 1) := dk_124 (dk_at dksJ22_hash_0 17 rfl rfl)
theorem dJ22_hash_18 : decode cJ22_hash 18 = .ok (.ixor, 1) := dk_130 (dk_at dksJ22_hash_0 18 rfl rfl)
theorem dJ22_hash_19 : decode cJ22_hash 19 = .ok (.ireturn, 1) := dk_172 (dk_at dksJ22_hash_0 19 rfl rfl)
abbrev cJ22_comparableClassFor : ByteArray := prog_79_method_2_code
def yJ22_comparableClassFor : MethodName := ⟨RJ22, "comparableClassFor", "(Ljava/lang/Object;)Ljava/lang/Class;"⟩
def dkwJ22_comparableClassFor_4 : List UInt8 := [4, 160, 0, 12, 45, 3, 50, 43, 166, 0, 5, 43, 176, 132, 7, 1, 167, 255, 186, 1, 176]
abbrev dktJ22_comparableClassFor_4 : List UInt8 := dkwJ22_comparableClassFor_4 ++ []
def dkwJ22_comparableClassFor_3 : List UInt8 := [185, 0, 23, 1, 0, 18, 7, 166, 0, 30, 25, 4, 185, 0, 27, 1, 0, 89, 78, 198, 0, 18, 45, 190]
abbrev dktJ22_comparableClassFor_3 : List UInt8 := dkwJ22_comparableClassFor_3 ++ dktJ22_comparableClassFor_4
def dkwJ22_comparableClassFor_2 : List UInt8 := [25, 5, 21, 7, 50, 58, 8, 25, 8, 193, 0, 21, 153, 0, 48, 25, 8, 192, 0, 21, 89, 58, 4]
abbrev dktJ22_comparableClassFor_2 : List UInt8 := dkwJ22_comparableClassFor_2 ++ dktJ22_comparableClassFor_3
def dkwJ22_comparableClassFor_1 : List UInt8 := [89, 77, 198, 0, 87, 44, 58, 5, 25, 5, 190, 54, 6, 3, 54, 7, 21, 7, 21, 6, 162, 0, 69]
abbrev dktJ22_comparableClassFor_1 : List UInt8 := dkwJ22_comparableClassFor_1 ++ dktJ22_comparableClassFor_2
def dkwJ22_comparableClassFor_0 : List UInt8 := [42, 193, 0, 7, 153, 0, 109, 42, 182, 0, 9, 89, 76, 18, 13, 166, 0, 5, 43, 176, 43, 182, 0, 15]
abbrev dktJ22_comparableClassFor_0 : List UInt8 := dkwJ22_comparableClassFor_0 ++ dktJ22_comparableClassFor_1
theorem dksJ22_comparableClassFor_0 : cJ22_comparableClassFor.data.toList.drop 0 = dktJ22_comparableClassFor_0 := by decide +kernel
theorem dksJ22_comparableClassFor_1 : cJ22_comparableClassFor.data.toList.drop 24 = dktJ22_comparableClassFor_1 := dk_seg dksJ22_comparableClassFor_0 24 rfl rfl
theorem dksJ22_comparableClassFor_2 : cJ22_comparableClassFor.data.toList.drop 47 = dktJ22_comparableClassFor_2 := dk_seg dksJ22_comparableClassFor_1 23 rfl rfl
theorem dksJ22_comparableClassFor_3 : cJ22_comparableClassFor.data.toList.drop 70 = dktJ22_comparableClassFor_3 := dk_seg dksJ22_comparableClassFor_2 23 rfl rfl
theorem dksJ22_comparableClassFor_4 : cJ22_comparableClassFor.data.toList.drop 94 = dktJ22_comparableClassFor_4 := dk_seg dksJ22_comparableClassFor_3 24 rfl rfl
theorem dJ22_comparableClassFor_0 : decode cJ22_comparableClassFor 0 = .ok (.aload_n 0, 1) := dk_42 (dk_at dksJ22_comparableClassFor_0 0 rfl rfl)
theorem dJ22_comparableClassFor_1 : decode cJ22_comparableClassFor 1 = .ok (.instanceof 7, 3) := dk_193 0 7 (dk_at dksJ22_comparableClassFor_0 1 rfl rfl)
theorem dJ22_comparableClassFor_4 : decode cJ22_comparableClassFor 4 = .ok (.ifCond .eq 109, 3) := dk_153 0 109 (dk_at dksJ22_comparableClassFor_0 4 rfl rfl)
theorem dJ22_comparableClassFor_7 : decode cJ22_comparableClassFor 7 = .ok (.aload_n 0, 1) := dk_42 (dk_at dksJ22_comparableClassFor_0 7 rfl rfl)
theorem dJ22_comparableClassFor_8 : decode cJ22_comparableClassFor 8 = .ok (.invokevirtual 9, 3) := dk_182 0 9 (dk_at dksJ22_comparableClassFor_0 8 rfl rfl)
theorem dJ22_comparableClassFor_11 : decode cJ22_comparableClassFor 11 = .ok (.dup, 1) := dk_89 (dk_at dksJ22_comparableClassFor_0 11 rfl rfl)
theorem dJ22_comparableClassFor_12 : decode cJ22_comparableClassFor 12 = .ok (.astore_n 1, 1) := dk_76 (dk_at dksJ22_comparableClassFor_0 12 rfl rfl)
theorem dJ22_comparableClassFor_13 : decode cJ22_comparableClassFor 13 = .ok (.ldc 13, 2) := dk_18 13 (dk_at dksJ22_comparableClassFor_0 13 rfl rfl)
theorem dJ22_comparableClassFor_15 : decode cJ22_comparableClassFor 15 = .ok (.if_acmp .ne 5, 3) := dk_166 0 5 (dk_at dksJ22_comparableClassFor_0 15 rfl rfl)
theorem dJ22_comparableClassFor_18 : decode cJ22_comparableClassFor 18 = .ok (.aload_n 1, 1) := dk_43 (dk_at dksJ22_comparableClassFor_0 18 rfl rfl)
theorem dJ22_comparableClassFor_19 : decode cJ22_comparableClassFor 19 = .ok (.areturn, 1) := dk_176 (dk_at dksJ22_comparableClassFor_0 19 rfl rfl)
theorem dJ22_comparableClassFor_20 : decode cJ22_comparableClassFor 20 = .ok (.aload_n 1, 1) := dk_43 (dk_at dksJ22_comparableClassFor_0 20 rfl rfl)
theorem dJ22_comparableClassFor_21 : decode cJ22_comparableClassFor 21 = .ok (.invokevirtual 15, 3) := dk_182 0 15 (dk_at dksJ22_comparableClassFor_0 21 rfl rfl)
theorem dJ22_comparableClassFor_24 : decode cJ22_comparableClassFor 24 = .ok (.dup, 1) := dk_89 (dk_at dksJ22_comparableClassFor_1 0 rfl rfl)
theorem dJ22_comparableClassFor_25 : decode cJ22_comparableClassFor 25 = .ok (.astore_n 2, 1) := dk_77 (dk_at dksJ22_comparableClassFor_1 1 rfl rfl)
theorem dJ22_comparableClassFor_26 : decode cJ22_comparableClassFor 26 = .ok (.ifnull 87, 3) := dk_198 0 87 (dk_at dksJ22_comparableClassFor_1 2 rfl rfl)
theorem dJ22_comparableClassFor_29 : decode cJ22_comparableClassFor 29 = .ok (.aload_n 2, 1) := dk_44 (dk_at dksJ22_comparableClassFor_1 5 rfl rfl)
theorem dJ22_comparableClassFor_30 : decode cJ22_comparableClassFor 30 = .ok (.astore 5, 2) := dk_58 5 (dk_at dksJ22_comparableClassFor_1 6 rfl rfl)
theorem dJ22_comparableClassFor_32 : decode cJ22_comparableClassFor 32 = .ok (.aload 5, 2) := dk_25 5 (dk_at dksJ22_comparableClassFor_1 8 rfl rfl)
theorem dJ22_comparableClassFor_34 : decode cJ22_comparableClassFor 34 = .ok (.arraylength, 1) := dk_190 (dk_at dksJ22_comparableClassFor_1 10 rfl rfl)
theorem dJ22_comparableClassFor_35 : decode cJ22_comparableClassFor 35 = .ok (.istore 6, 2) := dk_54 6 (dk_at dksJ22_comparableClassFor_1 11 rfl rfl)
theorem dJ22_comparableClassFor_37 : decode cJ22_comparableClassFor 37 = .ok (.iconst 0, 1) := dk_3 (dk_at dksJ22_comparableClassFor_1 13 rfl rfl)
theorem dJ22_comparableClassFor_38 : decode cJ22_comparableClassFor 38 = .ok (.istore 7, 2) := dk_54 7 (dk_at dksJ22_comparableClassFor_1 14 rfl rfl)
theorem dJ22_comparableClassFor_40 : decode cJ22_comparableClassFor 40 = .ok (.iload 7, 2) := dk_21 7 (dk_at dksJ22_comparableClassFor_1 16 rfl rfl)
theorem dJ22_comparableClassFor_42 : decode cJ22_comparableClassFor 42 = .ok (.iload 6, 2) := dk_21 6 (dk_at dksJ22_comparableClassFor_1 18 rfl rfl)
theorem dJ22_comparableClassFor_44 : decode cJ22_comparableClassFor 44 = .ok (.if_icmp .ge 69, 3) := dk_162 0 69 (dk_at dksJ22_comparableClassFor_1 20 rfl rfl)
theorem dJ22_comparableClassFor_47 : decode cJ22_comparableClassFor 47 = .ok (.aload 5, 2) := dk_25 5 (dk_at dksJ22_comparableClassFor_2 0 rfl rfl)
theorem dJ22_comparableClassFor_49 : decode cJ22_comparableClassFor 49 = .ok (.iload 7, 2) := dk_21 7 (dk_at dksJ22_comparableClassFor_2 2 rfl rfl)
theorem dJ22_comparableClassFor_51 : decode cJ22_comparableClassFor 51 = .ok (.aaload, 1) := dk_50 (dk_at dksJ22_comparableClassFor_2 4 rfl rfl)
theorem dJ22_comparableClassFor_52 : decode cJ22_comparableClassFor 52 = .ok (.astore 8, 2) := dk_58 8 (dk_at dksJ22_comparableClassFor_2 5 rfl rfl)
theorem dJ22_comparableClassFor_54 : decode cJ22_comparableClassFor 54 = .ok (.aload 8, 2) := dk_25 8 (dk_at dksJ22_comparableClassFor_2 7 rfl rfl)
theorem dJ22_comparableClassFor_56 : decode cJ22_comparableClassFor 56 = .ok (.instanceof 21, 3) := dk_193 0 21 (dk_at dksJ22_comparableClassFor_2 9 rfl rfl)
theorem dJ22_comparableClassFor_59 : decode cJ22_comparableClassFor 59 = .ok (.ifCond .eq 48, 3) := dk_153 0 48 (dk_at dksJ22_comparableClassFor_2 12 rfl rfl)
theorem dJ22_comparableClassFor_62 : decode cJ22_comparableClassFor 62 = .ok (.aload 8, 2) := dk_25 8 (dk_at dksJ22_comparableClassFor_2 15 rfl rfl)
theorem dJ22_comparableClassFor_64 : decode cJ22_comparableClassFor 64 = .ok (.checkcast 21, 3) := dk_192 0 21 (dk_at dksJ22_comparableClassFor_2 17 rfl rfl)
theorem dJ22_comparableClassFor_67 : decode cJ22_comparableClassFor 67 = .ok (.dup, 1) := dk_89 (dk_at dksJ22_comparableClassFor_2 20 rfl rfl)
theorem dJ22_comparableClassFor_68 : decode cJ22_comparableClassFor 68 = .ok (.astore 4, 2) := dk_58 4 (dk_at dksJ22_comparableClassFor_2 21 rfl rfl)
theorem dJ22_comparableClassFor_70 : decode cJ22_comparableClassFor 70 = .ok (.invokeinterface 23 1, 5) := by decide +kernel
theorem dJ22_comparableClassFor_75 : decode cJ22_comparableClassFor 75 = .ok (.ldc 7, 2) := dk_18 7 (dk_at dksJ22_comparableClassFor_3 5 rfl rfl)
theorem dJ22_comparableClassFor_77 : decode cJ22_comparableClassFor 77 = .ok (.if_acmp .ne 30, 3) := dk_166 0 30 (dk_at dksJ22_comparableClassFor_3 7 rfl rfl)
theorem dJ22_comparableClassFor_80 : decode cJ22_comparableClassFor 80 = .ok (.aload 4, 2) := dk_25 4 (dk_at dksJ22_comparableClassFor_3 10 rfl rfl)
theorem dJ22_comparableClassFor_82 : decode cJ22_comparableClassFor 82 = .ok (.invokeinterface 27 1, 5) := by decide +kernel
theorem dJ22_comparableClassFor_87 : decode cJ22_comparableClassFor 87 = .ok (.dup, 1) := dk_89 (dk_at dksJ22_comparableClassFor_3 17 rfl rfl)
theorem dJ22_comparableClassFor_88 : decode cJ22_comparableClassFor 88 = .ok (.astore_n 3, 1) := dk_78 (dk_at dksJ22_comparableClassFor_3 18 rfl rfl)
theorem dJ22_comparableClassFor_89 : decode cJ22_comparableClassFor 89 = .ok (.ifnull 18, 3) := dk_198 0 18 (dk_at dksJ22_comparableClassFor_3 19 rfl rfl)
theorem dJ22_comparableClassFor_92 : decode cJ22_comparableClassFor 92 = .ok (.aload_n 3, 1) := dk_45 (dk_at dksJ22_comparableClassFor_3 22 rfl rfl)
theorem dJ22_comparableClassFor_93 : decode cJ22_comparableClassFor 93 = .ok (.arraylength, 1) := dk_190 (dk_at dksJ22_comparableClassFor_3 23 rfl rfl)
theorem dJ22_comparableClassFor_94 : decode cJ22_comparableClassFor 94 = .ok (.iconst 1, 1) := dk_4 (dk_at dksJ22_comparableClassFor_4 0 rfl rfl)
theorem dJ22_comparableClassFor_95 : decode cJ22_comparableClassFor 95 = .ok (.if_icmp .ne 12, 3) := dk_160 0 12 (dk_at dksJ22_comparableClassFor_4 1 rfl rfl)
theorem dJ22_comparableClassFor_98 : decode cJ22_comparableClassFor 98 = .ok (.aload_n 3, 1) := dk_45 (dk_at dksJ22_comparableClassFor_4 4 rfl rfl)
theorem dJ22_comparableClassFor_99 : decode cJ22_comparableClassFor 99 = .ok (.iconst 0, 1) := dk_3 (dk_at dksJ22_comparableClassFor_4 5 rfl rfl)
theorem dJ22_comparableClassFor_100 : decode cJ22_comparableClassFor 100 = .ok (.aaload, 1) := dk_50 (dk_at dksJ22_comparableClassFor_4 6 rfl rfl)
theorem dJ22_comparableClassFor_101 : decode cJ22_comparableClassFor 101 = .ok (.aload_n 1, 1) := dk_43 (dk_at dksJ22_comparableClassFor_4 7 rfl rfl)
theorem dJ22_comparableClassFor_102 : decode cJ22_comparableClassFor 102 = .ok (.if_acmp .ne 5, 3) := dk_166 0 5 (dk_at dksJ22_comparableClassFor_4 8 rfl rfl)
theorem dJ22_comparableClassFor_105 : decode cJ22_comparableClassFor 105 = .ok (.aload_n 1, 1) := dk_43 (dk_at dksJ22_comparableClassFor_4 11 rfl rfl)
theorem dJ22_comparableClassFor_106 : decode cJ22_comparableClassFor 106 = .ok (.areturn, 1) := dk_176 (dk_at dksJ22_comparableClassFor_4 12 rfl rfl)
theorem dJ22_comparableClassFor_107 : decode cJ22_comparableClassFor 107 = .ok (.iinc 7 1, 3) := dk_132 7 1 (dk_at dksJ22_comparableClassFor_4 13 rfl rfl)
theorem dJ22_comparableClassFor_110 : decode cJ22_comparableClassFor 110 = .ok (.goto (-70), 3) := dk_167 255 186 (dk_at dksJ22_comparableClassFor_4 16 rfl rfl)
theorem dJ22_comparableClassFor_113 : decode cJ22_comparableClassFor 113 = .ok (.aconst_null, 1) := dk_1 (dk_at dksJ22_comparableClassFor_4 19 rfl rfl)
theorem dJ22_comparableClassFor_114 : decode cJ22_comparableClassFor 114 = .ok (.areturn, 1) := dk_176 (dk_at dksJ22_comparableClassFor_4 20 rfl rfl)
abbrev cJ22_compareComparables : ByteArray := prog_79_method_3_code
def yJ22_compareComparables : MethodName := ⟨RJ22, "compareComparables", "(Ljava/lang/Class;Ljava/lang/Object;Ljava/lang/Object;)I"⟩
def dkwJ22_compareComparables_1 : List UInt8 := [185, 0, 30, 2, 0, 172]
abbrev dktJ22_compareComparables_1 : List UInt8 := dkwJ22_compareComparables_1 ++ []
def dkwJ22_compareComparables_0 : List UInt8 := [44, 198, 0, 11, 44, 182, 0, 9, 42, 165, 0, 7, 3, 167, 0, 13, 43, 192, 0, 7, 44]
abbrev dktJ22_compareComparables_0 : List UInt8 := dkwJ22_compareComparables_0 ++ dktJ22_compareComparables_1
theorem dksJ22_compareComparables_0 : cJ22_compareComparables.data.toList.drop 0 = dktJ22_compareComparables_0 := by decide +kernel
theorem dksJ22_compareComparables_1 : cJ22_compareComparables.data.toList.drop 21 = dktJ22_compareComparables_1 := dk_seg dksJ22_compareComparables_0 21 rfl rfl
theorem dJ22_compareComparables_0 : decode cJ22_compareComparables 0 = .ok (.aload_n 2, 1) := dk_44 (dk_at dksJ22_compareComparables_0 0 rfl rfl)
theorem dJ22_compareComparables_1 : decode cJ22_compareComparables 1 = .ok (.ifnull 11, 3) := dk_198 0 11 (dk_at dksJ22_compareComparables_0 1 rfl rfl)
theorem dJ22_compareComparables_4 : decode cJ22_compareComparables 4 = .ok (.aload_n 2, 1) := dk_44 (dk_at dksJ22_compareComparables_0 4 rfl rfl)
theorem dJ22_compareComparables_5 : decode cJ22_compareComparables 5 = .ok (.invokevirtual 9, 3) := dk_182 0 9 (dk_at dksJ22_compareComparables_0 5 rfl rfl)
theorem dJ22_compareComparables_8 : decode cJ22_compareComparables 8 = .ok (.aload_n 0, 1) := dk_42 (dk_at dksJ22_compareComparables_0 8 rfl rfl)
theorem dJ22_compareComparables_9 : decode cJ22_compareComparables 9 = .ok (.if_acmp .eq 7, 3) := dk_165 0 7 (dk_at dksJ22_compareComparables_0 9 rfl rfl)
theorem dJ22_compareComparables_12 : decode cJ22_compareComparables 12 = .ok (.iconst 0, 1) := dk_3 (dk_at dksJ22_compareComparables_0 12 rfl rfl)
theorem dJ22_compareComparables_13 : decode cJ22_compareComparables 13 = .ok (.goto 13, 3) := dk_167 0 13 (dk_at dksJ22_compareComparables_0 13 rfl rfl)
theorem dJ22_compareComparables_16 : decode cJ22_compareComparables 16 = .ok (.aload_n 1, 1) := dk_43 (dk_at dksJ22_compareComparables_0 16 rfl rfl)
theorem dJ22_compareComparables_17 : decode cJ22_compareComparables 17 = .ok (.checkcast 7, 3) := dk_192 0 7 (dk_at dksJ22_compareComparables_0 17 rfl rfl)
theorem dJ22_compareComparables_20 : decode cJ22_compareComparables 20 = .ok (.aload_n 2, 1) := dk_44 (dk_at dksJ22_compareComparables_0 20 rfl rfl)
theorem dJ22_compareComparables_21 : decode cJ22_compareComparables 21 = .ok (.invokeinterface 30 2, 5) := by decide +kernel
theorem dJ22_compareComparables_26 : decode cJ22_compareComparables 26 = .ok (.ireturn, 1) := dk_172 (dk_at dksJ22_compareComparables_1 5 rfl rfl)
abbrev cJ22_size : ByteArray := prog_79_method_10_code
def yJ22_size : MethodName := ⟨RJ22, "size", "()I"⟩
theorem dJ22_size_0 : decode cJ22_size 0 = .ok (.aload_n 0, 1) := by decide +kernel
theorem dJ22_size_1 : decode cJ22_size 1 = .ok (.getfield 156, 3) := by decide +kernel
theorem dJ22_size_4 : decode cJ22_size 4 = .ok (.ireturn, 1) := by decide +kernel
abbrev cJ22_get : ByteArray := prog_79_method_12_code
def yJ22_get : MethodName := ⟨RJ22, "get", "(Ljava/lang/Object;)Ljava/lang/Object;"⟩
def dkwJ22_get_0 : List UInt8 := [42, 43, 182, 0, 158, 89, 77, 199, 0, 7, 1, 167, 0, 7, 44, 180, 0, 162, 176]
abbrev dktJ22_get_0 : List UInt8 := dkwJ22_get_0 ++ []
theorem dksJ22_get_0 : cJ22_get.data.toList.drop 0 = dktJ22_get_0 := by decide +kernel
theorem dJ22_get_0 : decode cJ22_get 0 = .ok (.aload_n 0, 1) := dk_42 (dk_at dksJ22_get_0 0 rfl rfl)
theorem dJ22_get_1 : decode cJ22_get 1 = .ok (.aload_n 1, 1) := dk_43 (dk_at dksJ22_get_0 1 rfl rfl)
theorem dJ22_get_2 : decode cJ22_get 2 = .ok (.invokevirtual 158, 3) := dk_182 0 158 (dk_at dksJ22_get_0 2 rfl rfl)
theorem dJ22_get_5 : decode cJ22_get 5 = .ok (.dup, 1) := dk_89 (dk_at dksJ22_get_0 5 rfl rfl)
theorem dJ22_get_6 : decode cJ22_get 6 = .ok (.astore_n 2, 1) := dk_77 (dk_at dksJ22_get_0 6 rfl rfl)
theorem dJ22_get_7 : decode cJ22_get 7 = .ok (.ifnonnull 7, 3) := dk_199 0 7 (dk_at dksJ22_get_0 7 rfl rfl)
theorem dJ22_get_10 : decode cJ22_get 10 = .ok (.aconst_null, 1) := dk_1 (dk_at dksJ22_get_0 10 rfl rfl)
theorem dJ22_get_11 : decode cJ22_get 11 = .ok (.goto 7, 3) := dk_167 0 7 (dk_at dksJ22_get_0 11 rfl rfl)
theorem dJ22_get_14 : decode cJ22_get 14 = .ok (.aload_n 2, 1) := dk_44 (dk_at dksJ22_get_0 14 rfl rfl)
theorem dJ22_get_15 : decode cJ22_get 15 = .ok (.getfield 162, 3) := dk_180 0 162 (dk_at dksJ22_get_0 15 rfl rfl)
theorem dJ22_get_18 : decode cJ22_get 18 = .ok (.areturn, 1) := dk_176 (dk_at dksJ22_get_0 18 rfl rfl)
abbrev cJ22_put : ByteArray := prog_79_method_15_code
def yJ22_put : MethodName := ⟨RJ22, "put", "(Ljava/lang/Object;Ljava/lang/Object;)Ljava/lang/Object;"⟩
def dkwJ22_put_0 : List UInt8 := [42, 43, 184, 0, 149, 43, 44, 3, 4, 182, 0, 152, 176]
abbrev dktJ22_put_0 : List UInt8 := dkwJ22_put_0 ++ []
theorem dksJ22_put_0 : cJ22_put.data.toList.drop 0 = dktJ22_put_0 := by decide +kernel
theorem dJ22_put_0 : decode cJ22_put 0 = .ok (.aload_n 0, 1) := dk_42 (dk_at dksJ22_put_0 0 rfl rfl)
theorem dJ22_put_1 : decode cJ22_put 1 = .ok (.aload_n 1, 1) := dk_43 (dk_at dksJ22_put_0 1 rfl rfl)
theorem dJ22_put_2 : decode cJ22_put 2 = .ok (.invokestatic 149, 3) := dk_184 0 149 (dk_at dksJ22_put_0 2 rfl rfl)
theorem dJ22_put_5 : decode cJ22_put 5 = .ok (.aload_n 1, 1) := dk_43 (dk_at dksJ22_put_0 5 rfl rfl)
theorem dJ22_put_6 : decode cJ22_put 6 = .ok (.aload_n 2, 1) := dk_44 (dk_at dksJ22_put_0 6 rfl rfl)
theorem dJ22_put_7 : decode cJ22_put 7 = .ok (.iconst 0, 1) := dk_3 (dk_at dksJ22_put_0 7 rfl rfl)
theorem dJ22_put_8 : decode cJ22_put 8 = .ok (.iconst 1, 1) := dk_4 (dk_at dksJ22_put_0 8 rfl rfl)
theorem dJ22_put_9 : decode cJ22_put 9 = .ok (.invokevirtual 152, 3) := dk_182 0 152 (dk_at dksJ22_put_0 9 rfl rfl)
theorem dJ22_put_12 : decode cJ22_put 12 = .ok (.areturn, 1) := dk_176 (dk_at dksJ22_put_0 12 rfl rfl)
abbrev cJ22_putVal : ByteArray := prog_79_method_16_code
def yJ22_putVal : MethodName := ⟨RJ22, "putVal", "(ILjava/lang/Object;Ljava/lang/Object;ZZ)Ljava/lang/Object;"⟩
def dkwJ22_putVal_12 : List UInt8 := [181, 0, 156, 42, 180, 0, 88, 164, 0, 8, 42, 182, 0, 117, 87, 42, 21, 5, 182, 0, 205, 1, 176]
abbrev dktJ22_putVal_12 : List UInt8 := dkwJ22_putVal_12 ++ []
def dkwJ22_putVal_11 : List UInt8 := [182, 0, 198, 25, 12, 176, 42, 89, 180, 0, 202, 4, 96, 181, 0, 202, 42, 89, 180, 0, 156, 4, 96, 90]
abbrev dktJ22_putVal_11 : List UInt8 := dkwJ22_putVal_11 ++ dktJ22_putVal_12
def dkwJ22_putVal_10 : List UInt8 := [180, 0, 162, 58, 12, 21, 4, 153, 0, 8, 25, 12, 199, 0, 9, 25, 10, 45, 181, 0, 162, 42, 25, 10]
abbrev dktJ22_putVal_10 : List UInt8 := dkwJ22_putVal_10 ++ dktJ22_putVal_11
def dkwJ22_putVal_9 : List UInt8 := [153, 0, 6, 167, 0, 13, 25, 10, 58, 7, 132, 12, 1, 167, 255, 171, 25, 10, 198, 0, 35, 25, 10]
abbrev dktJ22_putVal_9 : List UInt8 := dkwJ22_putVal_9 ++ dktJ22_putVal_10
def dkwJ22_putVal_8 : List UInt8 := [25, 10, 180, 0, 170, 89, 58, 11, 44, 165, 0, 29, 44, 198, 0, 15, 44, 25, 11, 182, 0, 173]
abbrev dktJ22_putVal_8 : List UInt8 := dkwJ22_putVal_8 ++ dktJ22_putVal_9
def dkwJ22_putVal_7 : List UInt8 := [16, 7, 161, 0, 60, 42, 25, 6, 27, 182, 0, 194, 167, 0, 50, 25, 10, 180, 0, 168, 27, 160, 0, 31]
abbrev dktJ22_putVal_7 : List UInt8 := dkwJ22_putVal_7 ++ dktJ22_putVal_8
def dkwJ22_putVal_6 : List UInt8 := [180, 0, 177, 89, 58, 10, 199, 0, 33, 25, 7, 42, 27, 44, 45, 1, 182, 0, 186, 181, 0, 177, 21, 12]
abbrev dktJ22_putVal_6 : List UInt8 := dkwJ22_putVal_6 ++ dktJ22_putVal_7
def dkwJ22_putVal_5 : List UInt8 := [192, 0, 180, 42, 25, 6, 27, 44, 45, 182, 0, 190, 58, 10, 167, 0, 94, 3, 54, 12, 25, 7]
abbrev dktJ22_putVal_5 : List UInt8 := dkwJ22_putVal_5 ++ dktJ22_putVal_6
def dkwJ22_putVal_4 : List UInt8 := [182, 0, 173, 153, 0, 10, 25, 7, 58, 10, 167, 0, 121, 25, 7, 193, 0, 180, 153, 0, 22, 25, 7]
abbrev dktJ22_putVal_4 : List UInt8 := dkwJ22_putVal_4 ++ dktJ22_putVal_5
def dkwJ22_putVal_3 : List UInt8 := [160, 0, 35, 25, 7, 180, 0, 170, 89, 58, 11, 44, 165, 0, 16, 44, 198, 0, 19, 44, 25, 11]
abbrev dktJ22_putVal_3 : List UInt8 := dkwJ22_putVal_3 ++ dktJ22_putVal_4
def dkwJ22_putVal_2 : List UInt8 := [25, 6, 21, 9, 42, 27, 44, 45, 1, 182, 0, 186, 83, 167, 0, 199, 25, 7, 180, 0, 168, 27]
abbrev dktJ22_putVal_2 : List UInt8 := dkwJ22_putVal_2 ++ dktJ22_putVal_3
def dkwJ22_putVal_1 : List UInt8 := [58, 6, 190, 54, 8, 25, 6, 21, 8, 4, 100, 27, 126, 89, 54, 9, 50, 89, 58, 7, 199, 0, 19]
abbrev dktJ22_putVal_1 : List UInt8 := dkwJ22_putVal_1 ++ dktJ22_putVal_2
def dkwJ22_putVal_0 : List UInt8 := [42, 180, 0, 105, 89, 58, 6, 198, 0, 12, 25, 6, 190, 89, 54, 8, 154, 0, 13, 42, 182, 0, 117, 89]
abbrev dktJ22_putVal_0 : List UInt8 := dkwJ22_putVal_0 ++ dktJ22_putVal_1
theorem dksJ22_putVal_0 : cJ22_putVal.data.toList.drop 0 = dktJ22_putVal_0 := by decide +kernel
theorem dksJ22_putVal_1 : cJ22_putVal.data.toList.drop 24 = dktJ22_putVal_1 := dk_seg dksJ22_putVal_0 24 rfl rfl
theorem dksJ22_putVal_2 : cJ22_putVal.data.toList.drop 47 = dktJ22_putVal_2 := dk_seg dksJ22_putVal_1 23 rfl rfl
theorem dksJ22_putVal_3 : cJ22_putVal.data.toList.drop 69 = dktJ22_putVal_3 := dk_seg dksJ22_putVal_2 22 rfl rfl
theorem dksJ22_putVal_4 : cJ22_putVal.data.toList.drop 91 = dktJ22_putVal_4 := dk_seg dksJ22_putVal_3 22 rfl rfl
theorem dksJ22_putVal_5 : cJ22_putVal.data.toList.drop 114 = dktJ22_putVal_5 := dk_seg dksJ22_putVal_4 23 rfl rfl
theorem dksJ22_putVal_6 : cJ22_putVal.data.toList.drop 136 = dktJ22_putVal_6 := dk_seg dksJ22_putVal_5 22 rfl rfl
theorem dksJ22_putVal_7 : cJ22_putVal.data.toList.drop 160 = dktJ22_putVal_7 := dk_seg dksJ22_putVal_6 24 rfl rfl
theorem dksJ22_putVal_8 : cJ22_putVal.data.toList.drop 184 = dktJ22_putVal_8 := dk_seg dksJ22_putVal_7 24 rfl rfl
theorem dksJ22_putVal_9 : cJ22_putVal.data.toList.drop 206 = dktJ22_putVal_9 := dk_seg dksJ22_putVal_8 22 rfl rfl
theorem dksJ22_putVal_10 : cJ22_putVal.data.toList.drop 229 = dktJ22_putVal_10 := dk_seg dksJ22_putVal_9 23 rfl rfl
theorem dksJ22_putVal_11 : cJ22_putVal.data.toList.drop 253 = dktJ22_putVal_11 := dk_seg dksJ22_putVal_10 24 rfl rfl
theorem dksJ22_putVal_12 : cJ22_putVal.data.toList.drop 277 = dktJ22_putVal_12 := dk_seg dksJ22_putVal_11 24 rfl rfl
theorem dJ22_putVal_0 : decode cJ22_putVal 0 = .ok (.aload_n 0, 1) := dk_42 (dk_at dksJ22_putVal_0 0 rfl rfl)
theorem dJ22_putVal_1 : decode cJ22_putVal 1 = .ok (.getfield 105, 3) := dk_180 0 105 (dk_at dksJ22_putVal_0 1 rfl rfl)
theorem dJ22_putVal_4 : decode cJ22_putVal 4 = .ok (.dup, 1) := dk_89 (dk_at dksJ22_putVal_0 4 rfl rfl)
theorem dJ22_putVal_5 : decode cJ22_putVal 5 = .ok (.astore 6, 2) := dk_58 6 (dk_at dksJ22_putVal_0 5 rfl rfl)
theorem dJ22_putVal_7 : decode cJ22_putVal 7 = .ok (.ifnull 12, 3) := dk_198 0 12 (dk_at dksJ22_putVal_0 7 rfl rfl)
theorem dJ22_putVal_10 : decode cJ22_putVal 10 = .ok (.aload 6, 2) := dk_25 6 (dk_at dksJ22_putVal_0 10 rfl rfl)
theorem dJ22_putVal_12 : decode cJ22_putVal 12 = .ok (.arraylength, 1) := dk_190 (dk_at dksJ22_putVal_0 12 rfl rfl)
theorem dJ22_putVal_13 : decode cJ22_putVal 13 = .ok (.dup, 1) := dk_89 (dk_at dksJ22_putVal_0 13 rfl rfl)
theorem dJ22_putVal_14 : decode cJ22_putVal 14 = .ok (.istore 8, 2) := dk_54 8 (dk_at dksJ22_putVal_0 14 rfl rfl)
theorem dJ22_putVal_16 : decode cJ22_putVal 16 = .ok (.ifCond .ne 13, 3) := dk_154 0 13 (dk_at dksJ22_putVal_0 16 rfl rfl)
theorem dJ22_putVal_19 : decode cJ22_putVal 19 = .ok (.aload_n 0, 1) := dk_42 (dk_at dksJ22_putVal_0 19 rfl rfl)
theorem dJ22_putVal_20 : decode cJ22_putVal 20 = .ok (.invokevirtual 117, 3) := dk_182 0 117 (dk_at dksJ22_putVal_0 20 rfl rfl)
theorem dJ22_putVal_23 : decode cJ22_putVal 23 = .ok (.dup, 1) := dk_89 (dk_at dksJ22_putVal_0 23 rfl rfl)
theorem dJ22_putVal_24 : decode cJ22_putVal 24 = .ok (.astore 6, 2) := dk_58 6 (dk_at dksJ22_putVal_1 0 rfl rfl)
theorem dJ22_putVal_26 : decode cJ22_putVal 26 = .ok (.arraylength, 1) := dk_190 (dk_at dksJ22_putVal_1 2 rfl rfl)
theorem dJ22_putVal_27 : decode cJ22_putVal 27 = .ok (.istore 8, 2) := dk_54 8 (dk_at dksJ22_putVal_1 3 rfl rfl)
theorem dJ22_putVal_29 : decode cJ22_putVal 29 = .ok (.aload 6, 2) := dk_25 6 (dk_at dksJ22_putVal_1 5 rfl rfl)
theorem dJ22_putVal_31 : decode cJ22_putVal 31 = .ok (.iload 8, 2) := dk_21 8 (dk_at dksJ22_putVal_1 7 rfl rfl)
theorem dJ22_putVal_33 : decode cJ22_putVal 33 = .ok (.iconst 1, 1) := dk_4 (dk_at dksJ22_putVal_1 9 rfl rfl)
theorem dJ22_putVal_34 : decode cJ22_putVal 34 = .ok (.isub, 1) := dk_100 (dk_at dksJ22_putVal_1 10 rfl rfl)
theorem dJ22_putVal_35 : decode cJ22_putVal 35 = .ok (.iload_n 1, 1) := dk_27 (dk_at dksJ22_putVal_1 11 rfl rfl)
theorem dJ22_putVal_36 : decode cJ22_putVal 36 = .ok (.iand, 1) := dk_126 (dk_at dksJ22_putVal_1 12 rfl rfl)
theorem dJ22_putVal_37 : decode cJ22_putVal 37 = .ok (.dup, 1) := dk_89 (dk_at dksJ22_putVal_1 13 rfl rfl)
theorem dJ22_putVal_38 : decode cJ22_putVal 38 = .ok (.istore 9, 2) := dk_54 9 (dk_at dksJ22_putVal_1 14 rfl rfl)
theorem dJ22_putVal_40 : decode cJ22_putVal 40 = .ok (.aaload, 1) := dk_50 (dk_at dksJ22_putVal_1 16 rfl rfl)
theorem dJ22_putVal_41 : decode cJ22_putVal 41 = .ok (.dup, 1) := dk_89 (dk_at dksJ22_putVal_1 17 rfl rfl)
theorem dJ22_putVal_42 : decode cJ22_putVal 42 = .ok (.astore 7, 2) := dk_58 7 (dk_at dksJ22_putVal_1 18 rfl rfl)
theorem dJ22_putVal_44 : decode cJ22_putVal 44 = .ok (.ifnonnull 19, 3) := dk_199 0 19 (dk_at dksJ22_putVal_1 20 rfl rfl)
theorem dJ22_putVal_47 : decode cJ22_putVal 47 = .ok (.aload 6, 2) := dk_25 6 (dk_at dksJ22_putVal_2 0 rfl rfl)
theorem dJ22_putVal_49 : decode cJ22_putVal 49 = .ok (.iload 9, 2) := dk_21 9 (dk_at dksJ22_putVal_2 2 rfl rfl)
theorem dJ22_putVal_51 : decode cJ22_putVal 51 = .ok (.aload_n 0, 1) := dk_42 (dk_at dksJ22_putVal_2 4 rfl rfl)
theorem dJ22_putVal_52 : decode cJ22_putVal 52 = .ok (.iload_n 1, 1) := dk_27 (dk_at dksJ22_putVal_2 5 rfl rfl)
theorem dJ22_putVal_53 : decode cJ22_putVal 53 = .ok (.aload_n 2, 1) := dk_44 (dk_at dksJ22_putVal_2 6 rfl rfl)
theorem dJ22_putVal_54 : decode cJ22_putVal 54 = .ok (.aload_n 3, 1) := dk_45 (dk_at dksJ22_putVal_2 7 rfl rfl)
theorem dJ22_putVal_55 : decode cJ22_putVal 55 = .ok (.aconst_null, 1) := dk_1 (dk_at dksJ22_putVal_2 8 rfl rfl)
theorem dJ22_putVal_56 : decode cJ22_putVal 56 = .ok (.invokevirtual 186, 3) := dk_182 0 186 (dk_at dksJ22_putVal_2 9 rfl rfl)
theorem dJ22_putVal_59 : decode cJ22_putVal 59 = .ok (.aastore, 1) := dk_83 (dk_at dksJ22_putVal_2 12 rfl rfl)
theorem dJ22_putVal_60 : decode cJ22_putVal 60 = .ok (.goto 199, 3) := dk_167 0 199 (dk_at dksJ22_putVal_2 13 rfl rfl)
theorem dJ22_putVal_63 : decode cJ22_putVal 63 = .ok (.aload 7, 2) := dk_25 7 (dk_at dksJ22_putVal_2 16 rfl rfl)
theorem dJ22_putVal_65 : decode cJ22_putVal 65 = .ok (.getfield 168, 3) := dk_180 0 168 (dk_at dksJ22_putVal_2 18 rfl rfl)
theorem dJ22_putVal_68 : decode cJ22_putVal 68 = .ok (.iload_n 1, 1) := dk_27 (dk_at dksJ22_putVal_2 21 rfl rfl)
theorem dJ22_putVal_69 : decode cJ22_putVal 69 = .ok (.if_icmp .ne 35, 3) := dk_160 0 35 (dk_at dksJ22_putVal_3 0 rfl rfl)
theorem dJ22_putVal_72 : decode cJ22_putVal 72 = .ok (.aload 7, 2) := dk_25 7 (dk_at dksJ22_putVal_3 3 rfl rfl)
theorem dJ22_putVal_74 : decode cJ22_putVal 74 = .ok (.getfield 170, 3) := dk_180 0 170 (dk_at dksJ22_putVal_3 5 rfl rfl)
theorem dJ22_putVal_77 : decode cJ22_putVal 77 = .ok (.dup, 1) := dk_89 (dk_at dksJ22_putVal_3 8 rfl rfl)
theorem dJ22_putVal_78 : decode cJ22_putVal 78 = .ok (.astore 11, 2) := dk_58 11 (dk_at dksJ22_putVal_3 9 rfl rfl)
theorem dJ22_putVal_80 : decode cJ22_putVal 80 = .ok (.aload_n 2, 1) := dk_44 (dk_at dksJ22_putVal_3 11 rfl rfl)
theorem dJ22_putVal_81 : decode cJ22_putVal 81 = .ok (.if_acmp .eq 16, 3) := dk_165 0 16 (dk_at dksJ22_putVal_3 12 rfl rfl)
theorem dJ22_putVal_84 : decode cJ22_putVal 84 = .ok (.aload_n 2, 1) := dk_44 (dk_at dksJ22_putVal_3 15 rfl rfl)
theorem dJ22_putVal_85 : decode cJ22_putVal 85 = .ok (.ifnull 19, 3) := dk_198 0 19 (dk_at dksJ22_putVal_3 16 rfl rfl)
theorem dJ22_putVal_88 : decode cJ22_putVal 88 = .ok (.aload_n 2, 1) := dk_44 (dk_at dksJ22_putVal_3 19 rfl rfl)
theorem dJ22_putVal_89 : decode cJ22_putVal 89 = .ok (.aload 11, 2) := dk_25 11 (dk_at dksJ22_putVal_3 20 rfl rfl)
theorem dJ22_putVal_91 : decode cJ22_putVal 91 = .ok (.invokevirtual 173, 3) := dk_182 0 173 (dk_at dksJ22_putVal_4 0 rfl rfl)
theorem dJ22_putVal_94 : decode cJ22_putVal 94 = .ok (.ifCond .eq 10, 3) := dk_153 0 10 (dk_at dksJ22_putVal_4 3 rfl rfl)
theorem dJ22_putVal_97 : decode cJ22_putVal 97 = .ok (.aload 7, 2) := dk_25 7 (dk_at dksJ22_putVal_4 6 rfl rfl)
theorem dJ22_putVal_99 : decode cJ22_putVal 99 = .ok (.astore 10, 2) := dk_58 10 (dk_at dksJ22_putVal_4 8 rfl rfl)
theorem dJ22_putVal_101 : decode cJ22_putVal 101 = .ok (.goto 121, 3) := dk_167 0 121 (dk_at dksJ22_putVal_4 10 rfl rfl)
theorem dJ22_putVal_104 : decode cJ22_putVal 104 = .ok (.aload 7, 2) := dk_25 7 (dk_at dksJ22_putVal_4 13 rfl rfl)
theorem dJ22_putVal_106 : decode cJ22_putVal 106 = .ok (.instanceof 180, 3) := dk_193 0 180 (dk_at dksJ22_putVal_4 15 rfl rfl)
theorem dJ22_putVal_109 : decode cJ22_putVal 109 = .ok (.ifCond .eq 22, 3) := dk_153 0 22 (dk_at dksJ22_putVal_4 18 rfl rfl)
theorem dJ22_putVal_112 : decode cJ22_putVal 112 = .ok (.aload 7, 2) := dk_25 7 (dk_at dksJ22_putVal_4 21 rfl rfl)
theorem dJ22_putVal_114 : decode cJ22_putVal 114 = .ok (.checkcast 180, 3) := dk_192 0 180 (dk_at dksJ22_putVal_5 0 rfl rfl)
theorem dJ22_putVal_117 : decode cJ22_putVal 117 = .ok (.aload_n 0, 1) := dk_42 (dk_at dksJ22_putVal_5 3 rfl rfl)
theorem dJ22_putVal_118 : decode cJ22_putVal 118 = .ok (.aload 6, 2) := dk_25 6 (dk_at dksJ22_putVal_5 4 rfl rfl)
theorem dJ22_putVal_120 : decode cJ22_putVal 120 = .ok (.iload_n 1, 1) := dk_27 (dk_at dksJ22_putVal_5 6 rfl rfl)
theorem dJ22_putVal_121 : decode cJ22_putVal 121 = .ok (.aload_n 2, 1) := dk_44 (dk_at dksJ22_putVal_5 7 rfl rfl)
theorem dJ22_putVal_122 : decode cJ22_putVal 122 = .ok (.aload_n 3, 1) := dk_45 (dk_at dksJ22_putVal_5 8 rfl rfl)
theorem dJ22_putVal_123 : decode cJ22_putVal 123 = .ok (.invokevirtual 190, 3) := dk_182 0 190 (dk_at dksJ22_putVal_5 9 rfl rfl)
theorem dJ22_putVal_126 : decode cJ22_putVal 126 = .ok (.astore 10, 2) := dk_58 10 (dk_at dksJ22_putVal_5 12 rfl rfl)
theorem dJ22_putVal_128 : decode cJ22_putVal 128 = .ok (.goto 94, 3) := dk_167 0 94 (dk_at dksJ22_putVal_5 14 rfl rfl)
theorem dJ22_putVal_131 : decode cJ22_putVal 131 = .ok (.iconst 0, 1) := dk_3 (dk_at dksJ22_putVal_5 17 rfl rfl)
theorem dJ22_putVal_132 : decode cJ22_putVal 132 = .ok (.istore 12, 2) := dk_54 12 (dk_at dksJ22_putVal_5 18 rfl rfl)
theorem dJ22_putVal_134 : decode cJ22_putVal 134 = .ok (.aload 7, 2) := dk_25 7 (dk_at dksJ22_putVal_5 20 rfl rfl)
theorem dJ22_putVal_136 : decode cJ22_putVal 136 = .ok (.getfield 177, 3) := dk_180 0 177 (dk_at dksJ22_putVal_6 0 rfl rfl)
theorem dJ22_putVal_139 : decode cJ22_putVal 139 = .ok (.dup, 1) := dk_89 (dk_at dksJ22_putVal_6 3 rfl rfl)
theorem dJ22_putVal_140 : decode cJ22_putVal 140 = .ok (.astore 10, 2) := dk_58 10 (dk_at dksJ22_putVal_6 4 rfl rfl)
theorem dJ22_putVal_142 : decode cJ22_putVal 142 = .ok (.ifnonnull 33, 3) := dk_199 0 33 (dk_at dksJ22_putVal_6 6 rfl rfl)
theorem dJ22_putVal_145 : decode cJ22_putVal 145 = .ok (.aload 7, 2) := dk_25 7 (dk_at dksJ22_putVal_6 9 rfl rfl)
theorem dJ22_putVal_147 : decode cJ22_putVal 147 = .ok (.aload_n 0, 1) := dk_42 (dk_at dksJ22_putVal_6 11 rfl rfl)
theorem dJ22_putVal_148 : decode cJ22_putVal 148 = .ok (.iload_n 1, 1) := dk_27 (dk_at dksJ22_putVal_6 12 rfl rfl)
theorem dJ22_putVal_149 : decode cJ22_putVal 149 = .ok (.aload_n 2, 1) := dk_44 (dk_at dksJ22_putVal_6 13 rfl rfl)
theorem dJ22_putVal_150 : decode cJ22_putVal 150 = .ok (.aload_n 3, 1) := dk_45 (dk_at dksJ22_putVal_6 14 rfl rfl)
theorem dJ22_putVal_151 : decode cJ22_putVal 151 = .ok (.aconst_null, 1) := dk_1 (dk_at dksJ22_putVal_6 15 rfl rfl)
theorem dJ22_putVal_152 : decode cJ22_putVal 152 = .ok (.invokevirtual 186, 3) := dk_182 0 186 (dk_at dksJ22_putVal_6 16 rfl rfl)
theorem dJ22_putVal_155 : decode cJ22_putVal 155 = .ok (.putfield 177, 3) := dk_181 0 177 (dk_at dksJ22_putVal_6 19 rfl rfl)
theorem dJ22_putVal_158 : decode cJ22_putVal 158 = .ok (.iload 12, 2) := dk_21 12 (dk_at dksJ22_putVal_6 22 rfl rfl)
theorem dJ22_putVal_160 : decode cJ22_putVal 160 = .ok (.bipush 7, 2) := dk_16 7 (dk_at dksJ22_putVal_7 0 rfl rfl)
theorem dJ22_putVal_162 : decode cJ22_putVal 162 = .ok (.if_icmp .lt 60, 3) := dk_161 0 60 (dk_at dksJ22_putVal_7 2 rfl rfl)
theorem dJ22_putVal_165 : decode cJ22_putVal 165 = .ok (.aload_n 0, 1) := dk_42 (dk_at dksJ22_putVal_7 5 rfl rfl)
theorem dJ22_putVal_166 : decode cJ22_putVal 166 = .ok (.aload 6, 2) := dk_25 6 (dk_at dksJ22_putVal_7 6 rfl rfl)
theorem dJ22_putVal_168 : decode cJ22_putVal 168 = .ok (.iload_n 1, 1) := dk_27 (dk_at dksJ22_putVal_7 8 rfl rfl)
theorem dJ22_putVal_169 : decode cJ22_putVal 169 = .ok (.invokevirtual 194, 3) := dk_182 0 194 (dk_at dksJ22_putVal_7 9 rfl rfl)
theorem dJ22_putVal_172 : decode cJ22_putVal 172 = .ok (.goto 50, 3) := dk_167 0 50 (dk_at dksJ22_putVal_7 12 rfl rfl)
theorem dJ22_putVal_175 : decode cJ22_putVal 175 = .ok (.aload 10, 2) := dk_25 10 (dk_at dksJ22_putVal_7 15 rfl rfl)
theorem dJ22_putVal_177 : decode cJ22_putVal 177 = .ok (.getfield 168, 3) := dk_180 0 168 (dk_at dksJ22_putVal_7 17 rfl rfl)
theorem dJ22_putVal_180 : decode cJ22_putVal 180 = .ok (.iload_n 1, 1) := dk_27 (dk_at dksJ22_putVal_7 20 rfl rfl)
theorem dJ22_putVal_181 : decode cJ22_putVal 181 = .ok (.if_icmp .ne 31, 3) := dk_160 0 31 (dk_at dksJ22_putVal_7 21 rfl rfl)
theorem dJ22_putVal_184 : decode cJ22_putVal 184 = .ok (.aload 10, 2) := dk_25 10 (dk_at dksJ22_putVal_8 0 rfl rfl)
theorem dJ22_putVal_186 : decode cJ22_putVal 186 = .ok (.getfield 170, 3) := dk_180 0 170 (dk_at dksJ22_putVal_8 2 rfl rfl)
theorem dJ22_putVal_189 : decode cJ22_putVal 189 = .ok (.dup, 1) := dk_89 (dk_at dksJ22_putVal_8 5 rfl rfl)
theorem dJ22_putVal_190 : decode cJ22_putVal 190 = .ok (.astore 11, 2) := dk_58 11 (dk_at dksJ22_putVal_8 6 rfl rfl)
theorem dJ22_putVal_192 : decode cJ22_putVal 192 = .ok (.aload_n 2, 1) := dk_44 (dk_at dksJ22_putVal_8 8 rfl rfl)
theorem dJ22_putVal_193 : decode cJ22_putVal 193 = .ok (.if_acmp .eq 29, 3) := dk_165 0 29 (dk_at dksJ22_putVal_8 9 rfl rfl)
theorem dJ22_putVal_196 : decode cJ22_putVal 196 = .ok (.aload_n 2, 1) := dk_44 (dk_at dksJ22_putVal_8 12 rfl rfl)
theorem dJ22_putVal_197 : decode cJ22_putVal 197 = .ok (.ifnull 15, 3) := dk_198 0 15 (dk_at dksJ22_putVal_8 13 rfl rfl)
theorem dJ22_putVal_200 : decode cJ22_putVal 200 = .ok (.aload_n 2, 1) := dk_44 (dk_at dksJ22_putVal_8 16 rfl rfl)
theorem dJ22_putVal_201 : decode cJ22_putVal 201 = .ok (.aload 11, 2) := dk_25 11 (dk_at dksJ22_putVal_8 17 rfl rfl)
theorem dJ22_putVal_203 : decode cJ22_putVal 203 = .ok (.invokevirtual 173, 3) := dk_182 0 173 (dk_at dksJ22_putVal_8 19 rfl rfl)
theorem dJ22_putVal_206 : decode cJ22_putVal 206 = .ok (.ifCond .eq 6, 3) := dk_153 0 6 (dk_at dksJ22_putVal_9 0 rfl rfl)
theorem dJ22_putVal_209 : decode cJ22_putVal 209 = .ok (.goto 13, 3) := dk_167 0 13 (dk_at dksJ22_putVal_9 3 rfl rfl)
theorem dJ22_putVal_212 : decode cJ22_putVal 212 = .ok (.aload 10, 2) := dk_25 10 (dk_at dksJ22_putVal_9 6 rfl rfl)
theorem dJ22_putVal_214 : decode cJ22_putVal 214 = .ok (.astore 7, 2) := dk_58 7 (dk_at dksJ22_putVal_9 8 rfl rfl)
theorem dJ22_putVal_216 : decode cJ22_putVal 216 = .ok (.iinc 12 1, 3) := dk_132 12 1 (dk_at dksJ22_putVal_9 10 rfl rfl)
theorem dJ22_putVal_219 : decode cJ22_putVal 219 = .ok (.goto (-85), 3) := dk_167 255 171 (dk_at dksJ22_putVal_9 13 rfl rfl)
theorem dJ22_putVal_222 : decode cJ22_putVal 222 = .ok (.aload 10, 2) := dk_25 10 (dk_at dksJ22_putVal_9 16 rfl rfl)
theorem dJ22_putVal_224 : decode cJ22_putVal 224 = .ok (.ifnull 35, 3) := dk_198 0 35 (dk_at dksJ22_putVal_9 18 rfl rfl)
theorem dJ22_putVal_227 : decode cJ22_putVal 227 = .ok (.aload 10, 2) := dk_25 10 (dk_at dksJ22_putVal_9 21 rfl rfl)
theorem dJ22_putVal_229 : decode cJ22_putVal 229 = .ok (.getfield 162, 3) := dk_180 0 162 (dk_at dksJ22_putVal_10 0 rfl rfl)
theorem dJ22_putVal_232 : decode cJ22_putVal 232 = .ok (.astore 12, 2) := dk_58 12 (dk_at dksJ22_putVal_10 3 rfl rfl)
theorem dJ22_putVal_234 : decode cJ22_putVal 234 = .ok (.iload 4, 2) := dk_21 4 (dk_at dksJ22_putVal_10 5 rfl rfl)
theorem dJ22_putVal_236 : decode cJ22_putVal 236 = .ok (.ifCond .eq 8, 3) := dk_153 0 8 (dk_at dksJ22_putVal_10 7 rfl rfl)
theorem dJ22_putVal_239 : decode cJ22_putVal 239 = .ok (.aload 12, 2) := dk_25 12 (dk_at dksJ22_putVal_10 10 rfl rfl)
theorem dJ22_putVal_241 : decode cJ22_putVal 241 = .ok (.ifnonnull 9, 3) := dk_199 0 9 (dk_at dksJ22_putVal_10 12 rfl rfl)
theorem dJ22_putVal_244 : decode cJ22_putVal 244 = .ok (.aload 10, 2) := dk_25 10 (dk_at dksJ22_putVal_10 15 rfl rfl)
theorem dJ22_putVal_246 : decode cJ22_putVal 246 = .ok (.aload_n 3, 1) := dk_45 (dk_at dksJ22_putVal_10 17 rfl rfl)
theorem dJ22_putVal_247 : decode cJ22_putVal 247 = .ok (.putfield 162, 3) := dk_181 0 162 (dk_at dksJ22_putVal_10 18 rfl rfl)
theorem dJ22_putVal_250 : decode cJ22_putVal 250 = .ok (.aload_n 0, 1) := dk_42 (dk_at dksJ22_putVal_10 21 rfl rfl)
theorem dJ22_putVal_251 : decode cJ22_putVal 251 = .ok (.aload 10, 2) := dk_25 10 (dk_at dksJ22_putVal_10 22 rfl rfl)
theorem dJ22_putVal_253 : decode cJ22_putVal 253 = .ok (.invokevirtual 198, 3) := dk_182 0 198 (dk_at dksJ22_putVal_11 0 rfl rfl)
theorem dJ22_putVal_256 : decode cJ22_putVal 256 = .ok (.aload 12, 2) := dk_25 12 (dk_at dksJ22_putVal_11 3 rfl rfl)
theorem dJ22_putVal_258 : decode cJ22_putVal 258 = .ok (.areturn, 1) := dk_176 (dk_at dksJ22_putVal_11 5 rfl rfl)
theorem dJ22_putVal_259 : decode cJ22_putVal 259 = .ok (.aload_n 0, 1) := dk_42 (dk_at dksJ22_putVal_11 6 rfl rfl)
theorem dJ22_putVal_260 : decode cJ22_putVal 260 = .ok (.dup, 1) := dk_89 (dk_at dksJ22_putVal_11 7 rfl rfl)
theorem dJ22_putVal_261 : decode cJ22_putVal 261 = .ok (.getfield 202, 3) := dk_180 0 202 (dk_at dksJ22_putVal_11 8 rfl rfl)
theorem dJ22_putVal_264 : decode cJ22_putVal 264 = .ok (.iconst 1, 1) := dk_4 (dk_at dksJ22_putVal_11 11 rfl rfl)
theorem dJ22_putVal_265 : decode cJ22_putVal 265 = .ok (.iadd, 1) := dk_96 (dk_at dksJ22_putVal_11 12 rfl rfl)
theorem dJ22_putVal_266 : decode cJ22_putVal 266 = .ok (.putfield 202, 3) := dk_181 0 202 (dk_at dksJ22_putVal_11 13 rfl rfl)
theorem dJ22_putVal_269 : decode cJ22_putVal 269 = .ok (.aload_n 0, 1) := dk_42 (dk_at dksJ22_putVal_11 16 rfl rfl)
theorem dJ22_putVal_270 : decode cJ22_putVal 270 = .ok (.dup, 1) := dk_89 (dk_at dksJ22_putVal_11 17 rfl rfl)
theorem dJ22_putVal_271 : decode cJ22_putVal 271 = .ok (.getfield 156, 3) := dk_180 0 156 (dk_at dksJ22_putVal_11 18 rfl rfl)
theorem dJ22_putVal_274 : decode cJ22_putVal 274 = .ok (.iconst 1, 1) := dk_4 (dk_at dksJ22_putVal_11 21 rfl rfl)
theorem dJ22_putVal_275 : decode cJ22_putVal 275 = .ok (.iadd, 1) := dk_96 (dk_at dksJ22_putVal_11 22 rfl rfl)
theorem dJ22_putVal_276 : decode cJ22_putVal 276 = .ok (.dup_x1, 1) := dk_90 (dk_at dksJ22_putVal_11 23 rfl rfl)
theorem dJ22_putVal_277 : decode cJ22_putVal 277 = .ok (.putfield 156, 3) := dk_181 0 156 (dk_at dksJ22_putVal_12 0 rfl rfl)
theorem dJ22_putVal_280 : decode cJ22_putVal 280 = .ok (.aload_n 0, 1) := dk_42 (dk_at dksJ22_putVal_12 3 rfl rfl)
theorem dJ22_putVal_281 : decode cJ22_putVal 281 = .ok (.getfield 88, 3) := dk_180 0 88 (dk_at dksJ22_putVal_12 4 rfl rfl)
theorem dJ22_putVal_284 : decode cJ22_putVal 284 = .ok (.if_icmp .le 8, 3) := dk_164 0 8 (dk_at dksJ22_putVal_12 7 rfl rfl)
theorem dJ22_putVal_287 : decode cJ22_putVal 287 = .ok (.aload_n 0, 1) := dk_42 (dk_at dksJ22_putVal_12 10 rfl rfl)
theorem dJ22_putVal_288 : decode cJ22_putVal 288 = .ok (.invokevirtual 117, 3) := dk_182 0 117 (dk_at dksJ22_putVal_12 11 rfl rfl)
theorem dJ22_putVal_291 : decode cJ22_putVal 291 = .ok (.pop, 1) := dk_87 (dk_at dksJ22_putVal_12 14 rfl rfl)
theorem dJ22_putVal_292 : decode cJ22_putVal 292 = .ok (.aload_n 0, 1) := dk_42 (dk_at dksJ22_putVal_12 15 rfl rfl)
theorem dJ22_putVal_293 : decode cJ22_putVal 293 = .ok (.iload 5, 2) := dk_21 5 (dk_at dksJ22_putVal_12 16 rfl rfl)
theorem dJ22_putVal_295 : decode cJ22_putVal 295 = .ok (.invokevirtual 205, 3) := dk_182 0 205 (dk_at dksJ22_putVal_12 18 rfl rfl)
theorem dJ22_putVal_298 : decode cJ22_putVal 298 = .ok (.aconst_null, 1) := dk_1 (dk_at dksJ22_putVal_12 21 rfl rfl)
theorem dJ22_putVal_299 : decode cJ22_putVal 299 = .ok (.areturn, 1) := dk_176 (dk_at dksJ22_putVal_12 22 rfl rfl)
abbrev cJ22_resize : ByteArray := prog_79_method_17_code
def yJ22_resize : MethodName := ⟨RJ22, "resize", "()[Ljava/util/HashMap$Node;"⟩
def dkwJ22_resize_15 : List UInt8 := [25, 6, 176]
abbrev dktJ22_resize_15 : List UInt8 := dkwJ22_resize_15 ++ []
def dkwJ22_resize_14 : List UInt8 := [198, 0, 18, 25, 12, 1, 181, 0, 177, 25, 6, 21, 7, 28, 96, 25, 11, 83, 132, 7, 1, 167, 255, 57]
abbrev dktJ22_resize_14 : List UInt8 := dkwJ22_resize_14 ++ dktJ22_resize_15
def dkwJ22_resize_13 : List UInt8 := [199, 255, 185, 25, 10, 198, 0, 16, 25, 10, 1, 181, 0, 177, 25, 6, 21, 7, 25, 9, 83, 25, 12]
abbrev dktJ22_resize_13 : List UInt8 := dkwJ22_resize_13 ++ dktJ22_resize_14
def dkwJ22_resize_12 : List UInt8 := [25, 8, 58, 11, 167, 0, 10, 25, 12, 25, 8, 181, 0, 177, 25, 8, 58, 12, 25, 13, 89, 58, 8]
abbrev dktJ22_resize_12 : List UInt8 := dkwJ22_resize_12 ++ dktJ22_resize_13
def dkwJ22_resize_11 : List UInt8 := [58, 9, 167, 0, 10, 25, 10, 25, 8, 181, 0, 177, 25, 8, 58, 10, 167, 0, 26, 25, 12, 199, 0, 10]
abbrev dktJ22_resize_11 : List UInt8 := dkwJ22_resize_11 ++ dktJ22_resize_12
def dkwJ22_resize_10 : List UInt8 := [25, 8, 180, 0, 177, 58, 13, 25, 8, 180, 0, 168, 28, 126, 154, 0, 29, 25, 10, 199, 0, 10, 25, 8]
abbrev dktJ22_resize_10 : List UInt8 := dkwJ22_resize_10 ++ dktJ22_resize_11
def dkwJ22_resize_9 : List UInt8 := [42, 25, 6, 21, 7, 28, 182, 0, 211, 167, 0, 127, 1, 58, 9, 1, 58, 10, 1, 58, 11, 1, 58, 12]
abbrev dktJ22_resize_9 : List UInt8 := dkwJ22_resize_9 ++ dktJ22_resize_10
def dkwJ22_resize_8 : List UInt8 := [21, 4, 4, 100, 126, 25, 8, 83, 167, 0, 152, 25, 8, 193, 0, 180, 153, 0, 20, 25, 8, 192, 0, 180]
abbrev dktJ22_resize_8 : List UInt8 := dkwJ22_resize_8 ++ dktJ22_resize_9
def dkwJ22_resize_7 : List UInt8 := [198, 0, 183, 43, 21, 7, 1, 83, 25, 8, 180, 0, 177, 199, 0, 21, 25, 6, 25, 8, 180, 0, 168]
abbrev dktJ22_resize_7 : List UInt8 := dkwJ22_resize_7 ++ dktJ22_resize_8
def dkwJ22_resize_6 : List UInt8 := [181, 0, 105, 43, 198, 0, 208, 3, 54, 7, 21, 7, 28, 162, 0, 199, 43, 21, 7, 50, 89, 58, 8]
abbrev dktJ22_resize_6 : List UInt8 := dkwJ22_resize_6 ++ dktJ22_resize_7
def dkwJ22_resize_5 : List UInt8 := [167, 0, 5, 18, 209, 54, 5, 42, 21, 5, 181, 0, 88, 21, 4, 189, 0, 163, 58, 6, 42, 25, 6]
abbrev dktJ22_resize_5 : List UInt8 := dkwJ22_resize_5 ++ dktJ22_resize_6
def dkwJ22_resize_4 : List UInt8 := [180, 0, 81, 106, 56, 6, 21, 4, 18, 42, 162, 0, 17, 23, 6, 18, 210, 150, 156, 0, 9, 23, 6, 139]
abbrev dktJ22_resize_4 : List UInt8 := dkwJ22_resize_4 ++ dktJ22_resize_5
def dkwJ22_resize_3 : List UInt8 := [54, 4, 167, 0, 11, 16, 16, 54, 4, 16, 12, 54, 5, 21, 5, 154, 0, 38, 21, 4, 134, 42]
abbrev dktJ22_resize_3 : List UInt8 := dkwJ22_resize_3 ++ dktJ22_resize_4
def dkwJ22_resize_2 : List UInt8 := [18, 42, 162, 0, 35, 28, 16, 16, 161, 0, 29, 29, 4, 120, 54, 5, 167, 0, 21, 29, 158, 0, 9, 29]
abbrev dktJ22_resize_2 : List UInt8 := dkwJ22_resize_2 ++ dktJ22_resize_3
def dkwJ22_resize_1 : List UInt8 := [28, 158, 0, 42, 28, 18, 42, 161, 0, 11, 42, 18, 209, 181, 0, 88, 43, 176, 28, 4, 120, 89, 54, 4]
abbrev dktJ22_resize_1 : List UInt8 := dkwJ22_resize_1 ++ dktJ22_resize_2
def dkwJ22_resize_0 : List UInt8 := [42, 180, 0, 105, 76, 43, 199, 0, 7, 3, 167, 0, 5, 43, 190, 61, 42, 180, 0, 88, 62, 3, 54, 5]
abbrev dktJ22_resize_0 : List UInt8 := dkwJ22_resize_0 ++ dktJ22_resize_1
theorem dksJ22_resize_0 : cJ22_resize.data.toList.drop 0 = dktJ22_resize_0 := by decide +kernel
theorem dksJ22_resize_1 : cJ22_resize.data.toList.drop 24 = dktJ22_resize_1 := dk_seg dksJ22_resize_0 24 rfl rfl
theorem dksJ22_resize_2 : cJ22_resize.data.toList.drop 48 = dktJ22_resize_2 := dk_seg dksJ22_resize_1 24 rfl rfl
theorem dksJ22_resize_3 : cJ22_resize.data.toList.drop 72 = dktJ22_resize_3 := dk_seg dksJ22_resize_2 24 rfl rfl
theorem dksJ22_resize_4 : cJ22_resize.data.toList.drop 94 = dktJ22_resize_4 := dk_seg dksJ22_resize_3 22 rfl rfl
theorem dksJ22_resize_5 : cJ22_resize.data.toList.drop 118 = dktJ22_resize_5 := dk_seg dksJ22_resize_4 24 rfl rfl
theorem dksJ22_resize_6 : cJ22_resize.data.toList.drop 141 = dktJ22_resize_6 := dk_seg dksJ22_resize_5 23 rfl rfl
theorem dksJ22_resize_7 : cJ22_resize.data.toList.drop 164 = dktJ22_resize_7 := dk_seg dksJ22_resize_6 23 rfl rfl
theorem dksJ22_resize_8 : cJ22_resize.data.toList.drop 187 = dktJ22_resize_8 := dk_seg dksJ22_resize_7 23 rfl rfl
theorem dksJ22_resize_9 : cJ22_resize.data.toList.drop 211 = dktJ22_resize_9 := dk_seg dksJ22_resize_8 24 rfl rfl
theorem dksJ22_resize_10 : cJ22_resize.data.toList.drop 235 = dktJ22_resize_10 := dk_seg dksJ22_resize_9 24 rfl rfl
theorem dksJ22_resize_11 : cJ22_resize.data.toList.drop 259 = dktJ22_resize_11 := dk_seg dksJ22_resize_10 24 rfl rfl
theorem dksJ22_resize_12 : cJ22_resize.data.toList.drop 283 = dktJ22_resize_12 := dk_seg dksJ22_resize_11 24 rfl rfl
theorem dksJ22_resize_13 : cJ22_resize.data.toList.drop 306 = dktJ22_resize_13 := dk_seg dksJ22_resize_12 23 rfl rfl
theorem dksJ22_resize_14 : cJ22_resize.data.toList.drop 329 = dktJ22_resize_14 := dk_seg dksJ22_resize_13 23 rfl rfl
theorem dksJ22_resize_15 : cJ22_resize.data.toList.drop 353 = dktJ22_resize_15 := dk_seg dksJ22_resize_14 24 rfl rfl
theorem dJ22_resize_0 : decode cJ22_resize 0 = .ok (.aload_n 0, 1) := dk_42 (dk_at dksJ22_resize_0 0 rfl rfl)
theorem dJ22_resize_1 : decode cJ22_resize 1 = .ok (.getfield 105, 3) := dk_180 0 105 (dk_at dksJ22_resize_0 1 rfl rfl)
theorem dJ22_resize_4 : decode cJ22_resize 4 = .ok (.astore_n 1, 1) := dk_76 (dk_at dksJ22_resize_0 4 rfl rfl)
theorem dJ22_resize_5 : decode cJ22_resize 5 = .ok (.aload_n 1, 1) := dk_43 (dk_at dksJ22_resize_0 5 rfl rfl)
theorem dJ22_resize_6 : decode cJ22_resize 6 = .ok (.ifnonnull 7, 3) := dk_199 0 7 (dk_at dksJ22_resize_0 6 rfl rfl)
theorem dJ22_resize_9 : decode cJ22_resize 9 = .ok (.iconst 0, 1) := dk_3 (dk_at dksJ22_resize_0 9 rfl rfl)
theorem dJ22_resize_10 : decode cJ22_resize 10 = .ok (.goto 5, 3) := dk_167 0 5 (dk_at dksJ22_resize_0 10 rfl rfl)
theorem dJ22_resize_13 : decode cJ22_resize 13 = .ok (.aload_n 1, 1) := dk_43 (dk_at dksJ22_resize_0 13 rfl rfl)
theorem dJ22_resize_14 : decode cJ22_resize 14 = .ok (.arraylength, 1) := dk_190 (dk_at dksJ22_resize_0 14 rfl rfl)
theorem dJ22_resize_15 : decode cJ22_resize 15 = .ok (.istore_n 2, 1) := dk_61 (dk_at dksJ22_resize_0 15 rfl rfl)
theorem dJ22_resize_16 : decode cJ22_resize 16 = .ok (.aload_n 0, 1) := dk_42 (dk_at dksJ22_resize_0 16 rfl rfl)
theorem dJ22_resize_17 : decode cJ22_resize 17 = .ok (.getfield 88, 3) := dk_180 0 88 (dk_at dksJ22_resize_0 17 rfl rfl)
theorem dJ22_resize_20 : decode cJ22_resize 20 = .ok (.istore_n 3, 1) := dk_62 (dk_at dksJ22_resize_0 20 rfl rfl)
theorem dJ22_resize_21 : decode cJ22_resize 21 = .ok (.iconst 0, 1) := dk_3 (dk_at dksJ22_resize_0 21 rfl rfl)
theorem dJ22_resize_22 : decode cJ22_resize 22 = .ok (.istore 5, 2) := dk_54 5 (dk_at dksJ22_resize_0 22 rfl rfl)
theorem dJ22_resize_24 : decode cJ22_resize 24 = .ok (.iload_n 2, 1) := dk_28 (dk_at dksJ22_resize_1 0 rfl rfl)
theorem dJ22_resize_25 : decode cJ22_resize 25 = .ok (.ifCond .le 42, 3) := dk_158 0 42 (dk_at dksJ22_resize_1 1 rfl rfl)
theorem dJ22_resize_28 : decode cJ22_resize 28 = .ok (.iload_n 2, 1) := dk_28 (dk_at dksJ22_resize_1 4 rfl rfl)
theorem dJ22_resize_29 : decode cJ22_resize 29 = .ok (.ldc 42, 2) := dk_18 42 (dk_at dksJ22_resize_1 5 rfl rfl)
theorem dJ22_resize_31 : decode cJ22_resize 31 = .ok (.if_icmp .lt 11, 3) := dk_161 0 11 (dk_at dksJ22_resize_1 7 rfl rfl)
theorem dJ22_resize_34 : decode cJ22_resize 34 = .ok (.aload_n 0, 1) := dk_42 (dk_at dksJ22_resize_1 10 rfl rfl)
theorem dJ22_resize_35 : decode cJ22_resize 35 = .ok (.ldc 209, 2) := dk_18 209 (dk_at dksJ22_resize_1 11 rfl rfl)
theorem dJ22_resize_37 : decode cJ22_resize 37 = .ok (.putfield 88, 3) := dk_181 0 88 (dk_at dksJ22_resize_1 13 rfl rfl)
theorem dJ22_resize_40 : decode cJ22_resize 40 = .ok (.aload_n 1, 1) := dk_43 (dk_at dksJ22_resize_1 16 rfl rfl)
theorem dJ22_resize_41 : decode cJ22_resize 41 = .ok (.areturn, 1) := dk_176 (dk_at dksJ22_resize_1 17 rfl rfl)
theorem dJ22_resize_42 : decode cJ22_resize 42 = .ok (.iload_n 2, 1) := dk_28 (dk_at dksJ22_resize_1 18 rfl rfl)
theorem dJ22_resize_43 : decode cJ22_resize 43 = .ok (.iconst 1, 1) := dk_4 (dk_at dksJ22_resize_1 19 rfl rfl)
theorem dJ22_resize_44 : decode cJ22_resize 44 = .ok (.ishl, 1) := dk_120 (dk_at dksJ22_resize_1 20 rfl rfl)
theorem dJ22_resize_45 : decode cJ22_resize 45 = .ok (.dup, 1) := dk_89 (dk_at dksJ22_resize_1 21 rfl rfl)
theorem dJ22_resize_46 : decode cJ22_resize 46 = .ok (.istore 4, 2) := dk_54 4 (dk_at dksJ22_resize_1 22 rfl rfl)
theorem dJ22_resize_48 : decode cJ22_resize 48 = .ok (.ldc 42, 2) := dk_18 42 (dk_at dksJ22_resize_2 0 rfl rfl)
theorem dJ22_resize_50 : decode cJ22_resize 50 = .ok (.if_icmp .ge 35, 3) := dk_162 0 35 (dk_at dksJ22_resize_2 2 rfl rfl)
theorem dJ22_resize_53 : decode cJ22_resize 53 = .ok (.iload_n 2, 1) := dk_28 (dk_at dksJ22_resize_2 5 rfl rfl)
theorem dJ22_resize_54 : decode cJ22_resize 54 = .ok (.bipush 16, 2) := dk_16 16 (dk_at dksJ22_resize_2 6 rfl rfl)
theorem dJ22_resize_56 : decode cJ22_resize 56 = .ok (.if_icmp .lt 29, 3) := dk_161 0 29 (dk_at dksJ22_resize_2 8 rfl rfl)
theorem dJ22_resize_59 : decode cJ22_resize 59 = .ok (.iload_n 3, 1) := dk_29 (dk_at dksJ22_resize_2 11 rfl rfl)
theorem dJ22_resize_60 : decode cJ22_resize 60 = .ok (.iconst 1, 1) := dk_4 (dk_at dksJ22_resize_2 12 rfl rfl)
theorem dJ22_resize_61 : decode cJ22_resize 61 = .ok (.ishl, 1) := dk_120 (dk_at dksJ22_resize_2 13 rfl rfl)
theorem dJ22_resize_62 : decode cJ22_resize 62 = .ok (.istore 5, 2) := dk_54 5 (dk_at dksJ22_resize_2 14 rfl rfl)
theorem dJ22_resize_64 : decode cJ22_resize 64 = .ok (.goto 21, 3) := dk_167 0 21 (dk_at dksJ22_resize_2 16 rfl rfl)
theorem dJ22_resize_67 : decode cJ22_resize 67 = .ok (.iload_n 3, 1) := dk_29 (dk_at dksJ22_resize_2 19 rfl rfl)
theorem dJ22_resize_68 : decode cJ22_resize 68 = .ok (.ifCond .le 9, 3) := dk_158 0 9 (dk_at dksJ22_resize_2 20 rfl rfl)
theorem dJ22_resize_71 : decode cJ22_resize 71 = .ok (.iload_n 3, 1) := dk_29 (dk_at dksJ22_resize_2 23 rfl rfl)
theorem dJ22_resize_72 : decode cJ22_resize 72 = .ok (.istore 4, 2) := dk_54 4 (dk_at dksJ22_resize_3 0 rfl rfl)
theorem dJ22_resize_74 : decode cJ22_resize 74 = .ok (.goto 11, 3) := dk_167 0 11 (dk_at dksJ22_resize_3 2 rfl rfl)
theorem dJ22_resize_77 : decode cJ22_resize 77 = .ok (.bipush 16, 2) := dk_16 16 (dk_at dksJ22_resize_3 5 rfl rfl)
theorem dJ22_resize_79 : decode cJ22_resize 79 = .ok (.istore 4, 2) := dk_54 4 (dk_at dksJ22_resize_3 7 rfl rfl)
theorem dJ22_resize_81 : decode cJ22_resize 81 = .ok (.bipush 12, 2) := dk_16 12 (dk_at dksJ22_resize_3 9 rfl rfl)
theorem dJ22_resize_83 : decode cJ22_resize 83 = .ok (.istore 5, 2) := dk_54 5 (dk_at dksJ22_resize_3 11 rfl rfl)
theorem dJ22_resize_85 : decode cJ22_resize 85 = .ok (.iload 5, 2) := dk_21 5 (dk_at dksJ22_resize_3 13 rfl rfl)
theorem dJ22_resize_87 : decode cJ22_resize 87 = .ok (.ifCond .ne 38, 3) := dk_154 0 38 (dk_at dksJ22_resize_3 15 rfl rfl)
theorem dJ22_resize_90 : decode cJ22_resize 90 = .ok (.iload 4, 2) := dk_21 4 (dk_at dksJ22_resize_3 18 rfl rfl)
theorem dJ22_resize_92 : decode cJ22_resize 92 = .ok (.i2f, 1) := dk_134 (dk_at dksJ22_resize_3 20 rfl rfl)
theorem dJ22_resize_93 : decode cJ22_resize 93 = .ok (.aload_n 0, 1) := dk_42 (dk_at dksJ22_resize_3 21 rfl rfl)
theorem dJ22_resize_94 : decode cJ22_resize 94 = .ok (.getfield 81, 3) := dk_180 0 81 (dk_at dksJ22_resize_4 0 rfl rfl)
theorem dJ22_resize_97 : decode cJ22_resize 97 = .ok (.fmul, 1) := dk_106 (dk_at dksJ22_resize_4 3 rfl rfl)
theorem dJ22_resize_98 : decode cJ22_resize 98 = .ok (.fstore 6, 2) := dk_56 6 (dk_at dksJ22_resize_4 4 rfl rfl)
theorem dJ22_resize_100 : decode cJ22_resize 100 = .ok (.iload 4, 2) := dk_21 4 (dk_at dksJ22_resize_4 6 rfl rfl)
theorem dJ22_resize_102 : decode cJ22_resize 102 = .ok (.ldc 42, 2) := dk_18 42 (dk_at dksJ22_resize_4 8 rfl rfl)
theorem dJ22_resize_104 : decode cJ22_resize 104 = .ok (.if_icmp .ge 17, 3) := dk_162 0 17 (dk_at dksJ22_resize_4 10 rfl rfl)
theorem dJ22_resize_107 : decode cJ22_resize 107 = .ok (.fload 6, 2) := dk_23 6 (dk_at dksJ22_resize_4 13 rfl rfl)
theorem dJ22_resize_109 : decode cJ22_resize 109 = .ok (.ldc 210, 2) := dk_18 210 (dk_at dksJ22_resize_4 15 rfl rfl)
theorem dJ22_resize_111 : decode cJ22_resize 111 = .ok (.fcmp .g, 1) := dk_150 (dk_at dksJ22_resize_4 17 rfl rfl)
theorem dJ22_resize_112 : decode cJ22_resize 112 = .ok (.ifCond .ge 9, 3) := dk_156 0 9 (dk_at dksJ22_resize_4 18 rfl rfl)
theorem dJ22_resize_115 : decode cJ22_resize 115 = .ok (.fload 6, 2) := dk_23 6 (dk_at dksJ22_resize_4 21 rfl rfl)
theorem dJ22_resize_117 : decode cJ22_resize 117 = .ok (.f2i, 1) := dk_139 (dk_at dksJ22_resize_4 23 rfl rfl)
theorem dJ22_resize_118 : decode cJ22_resize 118 = .ok (.goto 5, 3) := dk_167 0 5 (dk_at dksJ22_resize_5 0 rfl rfl)
theorem dJ22_resize_121 : decode cJ22_resize 121 = .ok (.ldc 209, 2) := dk_18 209 (dk_at dksJ22_resize_5 3 rfl rfl)
theorem dJ22_resize_123 : decode cJ22_resize 123 = .ok (.istore 5, 2) := dk_54 5 (dk_at dksJ22_resize_5 5 rfl rfl)
theorem dJ22_resize_125 : decode cJ22_resize 125 = .ok (.aload_n 0, 1) := dk_42 (dk_at dksJ22_resize_5 7 rfl rfl)
theorem dJ22_resize_126 : decode cJ22_resize 126 = .ok (.iload 5, 2) := dk_21 5 (dk_at dksJ22_resize_5 8 rfl rfl)
theorem dJ22_resize_128 : decode cJ22_resize 128 = .ok (.putfield 88, 3) := dk_181 0 88 (dk_at dksJ22_resize_5 10 rfl rfl)
theorem dJ22_resize_131 : decode cJ22_resize 131 = .ok (.iload 4, 2) := dk_21 4 (dk_at dksJ22_resize_5 13 rfl rfl)
theorem dJ22_resize_133 : decode cJ22_resize 133 = .ok (.anewarray 163, 3) := dk_189 0 163 (dk_at dksJ22_resize_5 15 rfl rfl)
theorem dJ22_resize_136 : decode cJ22_resize 136 = .ok (.astore 6, 2) := dk_58 6 (dk_at dksJ22_resize_5 18 rfl rfl)
theorem dJ22_resize_138 : decode cJ22_resize 138 = .ok (.aload_n 0, 1) := dk_42 (dk_at dksJ22_resize_5 20 rfl rfl)
theorem dJ22_resize_139 : decode cJ22_resize 139 = .ok (.aload 6, 2) := dk_25 6 (dk_at dksJ22_resize_5 21 rfl rfl)
theorem dJ22_resize_141 : decode cJ22_resize 141 = .ok (.putfield 105, 3) := dk_181 0 105 (dk_at dksJ22_resize_6 0 rfl rfl)
theorem dJ22_resize_144 : decode cJ22_resize 144 = .ok (.aload_n 1, 1) := dk_43 (dk_at dksJ22_resize_6 3 rfl rfl)
theorem dJ22_resize_145 : decode cJ22_resize 145 = .ok (.ifnull 208, 3) := dk_198 0 208 (dk_at dksJ22_resize_6 4 rfl rfl)
theorem dJ22_resize_148 : decode cJ22_resize 148 = .ok (.iconst 0, 1) := dk_3 (dk_at dksJ22_resize_6 7 rfl rfl)
theorem dJ22_resize_149 : decode cJ22_resize 149 = .ok (.istore 7, 2) := dk_54 7 (dk_at dksJ22_resize_6 8 rfl rfl)
theorem dJ22_resize_151 : decode cJ22_resize 151 = .ok (.iload 7, 2) := dk_21 7 (dk_at dksJ22_resize_6 10 rfl rfl)
theorem dJ22_resize_153 : decode cJ22_resize 153 = .ok (.iload_n 2, 1) := dk_28 (dk_at dksJ22_resize_6 12 rfl rfl)
theorem dJ22_resize_154 : decode cJ22_resize 154 = .ok (.if_icmp .ge 199, 3) := dk_162 0 199 (dk_at dksJ22_resize_6 13 rfl rfl)
theorem dJ22_resize_157 : decode cJ22_resize 157 = .ok (.aload_n 1, 1) := dk_43 (dk_at dksJ22_resize_6 16 rfl rfl)
theorem dJ22_resize_158 : decode cJ22_resize 158 = .ok (.iload 7, 2) := dk_21 7 (dk_at dksJ22_resize_6 17 rfl rfl)
theorem dJ22_resize_160 : decode cJ22_resize 160 = .ok (.aaload, 1) := dk_50 (dk_at dksJ22_resize_6 19 rfl rfl)
theorem dJ22_resize_161 : decode cJ22_resize 161 = .ok (.dup, 1) := dk_89 (dk_at dksJ22_resize_6 20 rfl rfl)
theorem dJ22_resize_162 : decode cJ22_resize 162 = .ok (.astore 8, 2) := dk_58 8 (dk_at dksJ22_resize_6 21 rfl rfl)
theorem dJ22_resize_164 : decode cJ22_resize 164 = .ok (.ifnull 183, 3) := dk_198 0 183 (dk_at dksJ22_resize_7 0 rfl rfl)
theorem dJ22_resize_167 : decode cJ22_resize 167 = .ok (.aload_n 1, 1) := dk_43 (dk_at dksJ22_resize_7 3 rfl rfl)
theorem dJ22_resize_168 : decode cJ22_resize 168 = .ok (.iload 7, 2) := dk_21 7 (dk_at dksJ22_resize_7 4 rfl rfl)
theorem dJ22_resize_170 : decode cJ22_resize 170 = .ok (.aconst_null, 1) := dk_1 (dk_at dksJ22_resize_7 6 rfl rfl)
theorem dJ22_resize_171 : decode cJ22_resize 171 = .ok (.aastore, 1) := dk_83 (dk_at dksJ22_resize_7 7 rfl rfl)
theorem dJ22_resize_172 : decode cJ22_resize 172 = .ok (.aload 8, 2) := dk_25 8 (dk_at dksJ22_resize_7 8 rfl rfl)
theorem dJ22_resize_174 : decode cJ22_resize 174 = .ok (.getfield 177, 3) := dk_180 0 177 (dk_at dksJ22_resize_7 10 rfl rfl)
theorem dJ22_resize_177 : decode cJ22_resize 177 = .ok (.ifnonnull 21, 3) := dk_199 0 21 (dk_at dksJ22_resize_7 13 rfl rfl)
theorem dJ22_resize_180 : decode cJ22_resize 180 = .ok (.aload 6, 2) := dk_25 6 (dk_at dksJ22_resize_7 16 rfl rfl)
theorem dJ22_resize_182 : decode cJ22_resize 182 = .ok (.aload 8, 2) := dk_25 8 (dk_at dksJ22_resize_7 18 rfl rfl)
theorem dJ22_resize_184 : decode cJ22_resize 184 = .ok (.getfield 168, 3) := dk_180 0 168 (dk_at dksJ22_resize_7 20 rfl rfl)
theorem dJ22_resize_187 : decode cJ22_resize 187 = .ok (.iload 4, 2) := dk_21 4 (dk_at dksJ22_resize_8 0 rfl rfl)
theorem dJ22_resize_189 : decode cJ22_resize 189 = .ok (.iconst 1, 1) := dk_4 (dk_at dksJ22_resize_8 2 rfl rfl)
theorem dJ22_resize_190 : decode cJ22_resize 190 = .ok (.isub, 1) := dk_100 (dk_at dksJ22_resize_8 3 rfl rfl)
theorem dJ22_resize_191 : decode cJ22_resize 191 = .ok (.iand, 1) := dk_126 (dk_at dksJ22_resize_8 4 rfl rfl)
theorem dJ22_resize_192 : decode cJ22_resize 192 = .ok (.aload 8, 2) := dk_25 8 (dk_at dksJ22_resize_8 5 rfl rfl)
theorem dJ22_resize_194 : decode cJ22_resize 194 = .ok (.aastore, 1) := dk_83 (dk_at dksJ22_resize_8 7 rfl rfl)
theorem dJ22_resize_195 : decode cJ22_resize 195 = .ok (.goto 152, 3) := dk_167 0 152 (dk_at dksJ22_resize_8 8 rfl rfl)
theorem dJ22_resize_198 : decode cJ22_resize 198 = .ok (.aload 8, 2) := dk_25 8 (dk_at dksJ22_resize_8 11 rfl rfl)
theorem dJ22_resize_200 : decode cJ22_resize 200 = .ok (.instanceof 180, 3) := dk_193 0 180 (dk_at dksJ22_resize_8 13 rfl rfl)
theorem dJ22_resize_203 : decode cJ22_resize 203 = .ok (.ifCond .eq 20, 3) := dk_153 0 20 (dk_at dksJ22_resize_8 16 rfl rfl)
theorem dJ22_resize_206 : decode cJ22_resize 206 = .ok (.aload 8, 2) := dk_25 8 (dk_at dksJ22_resize_8 19 rfl rfl)
theorem dJ22_resize_208 : decode cJ22_resize 208 = .ok (.checkcast 180, 3) := dk_192 0 180 (dk_at dksJ22_resize_8 21 rfl rfl)
theorem dJ22_resize_211 : decode cJ22_resize 211 = .ok (.aload_n 0, 1) := dk_42 (dk_at dksJ22_resize_9 0 rfl rfl)
theorem dJ22_resize_212 : decode cJ22_resize 212 = .ok (.aload 6, 2) := dk_25 6 (dk_at dksJ22_resize_9 1 rfl rfl)
theorem dJ22_resize_214 : decode cJ22_resize 214 = .ok (.iload 7, 2) := dk_21 7 (dk_at dksJ22_resize_9 3 rfl rfl)
theorem dJ22_resize_216 : decode cJ22_resize 216 = .ok (.iload_n 2, 1) := dk_28 (dk_at dksJ22_resize_9 5 rfl rfl)
theorem dJ22_resize_217 : decode cJ22_resize 217 = .ok (.invokevirtual 211, 3) := dk_182 0 211 (dk_at dksJ22_resize_9 6 rfl rfl)
theorem dJ22_resize_220 : decode cJ22_resize 220 = .ok (.goto 127, 3) := dk_167 0 127 (dk_at dksJ22_resize_9 9 rfl rfl)
theorem dJ22_resize_223 : decode cJ22_resize 223 = .ok (.aconst_null, 1) := dk_1 (dk_at dksJ22_resize_9 12 rfl rfl)
theorem dJ22_resize_224 : decode cJ22_resize 224 = .ok (.astore 9, 2) := dk_58 9 (dk_at dksJ22_resize_9 13 rfl rfl)
theorem dJ22_resize_226 : decode cJ22_resize 226 = .ok (.aconst_null, 1) := dk_1 (dk_at dksJ22_resize_9 15 rfl rfl)
theorem dJ22_resize_227 : decode cJ22_resize 227 = .ok (.astore 10, 2) := dk_58 10 (dk_at dksJ22_resize_9 16 rfl rfl)
theorem dJ22_resize_229 : decode cJ22_resize 229 = .ok (.aconst_null, 1) := dk_1 (dk_at dksJ22_resize_9 18 rfl rfl)
theorem dJ22_resize_230 : decode cJ22_resize 230 = .ok (.astore 11, 2) := dk_58 11 (dk_at dksJ22_resize_9 19 rfl rfl)
theorem dJ22_resize_232 : decode cJ22_resize 232 = .ok (.aconst_null, 1) := dk_1 (dk_at dksJ22_resize_9 21 rfl rfl)
theorem dJ22_resize_233 : decode cJ22_resize 233 = .ok (.astore 12, 2) := dk_58 12 (dk_at dksJ22_resize_9 22 rfl rfl)
theorem dJ22_resize_235 : decode cJ22_resize 235 = .ok (.aload 8, 2) := dk_25 8 (dk_at dksJ22_resize_10 0 rfl rfl)
theorem dJ22_resize_237 : decode cJ22_resize 237 = .ok (.getfield 177, 3) := dk_180 0 177 (dk_at dksJ22_resize_10 2 rfl rfl)
theorem dJ22_resize_240 : decode cJ22_resize 240 = .ok (.astore 13, 2) := dk_58 13 (dk_at dksJ22_resize_10 5 rfl rfl)
theorem dJ22_resize_242 : decode cJ22_resize 242 = .ok (.aload 8, 2) := dk_25 8 (dk_at dksJ22_resize_10 7 rfl rfl)
theorem dJ22_resize_244 : decode cJ22_resize 244 = .ok (.getfield 168, 3) := dk_180 0 168 (dk_at dksJ22_resize_10 9 rfl rfl)
theorem dJ22_resize_247 : decode cJ22_resize 247 = .ok (.iload_n 2, 1) := dk_28 (dk_at dksJ22_resize_10 12 rfl rfl)
theorem dJ22_resize_248 : decode cJ22_resize 248 = .ok (.iand, 1) := dk_126 (dk_at dksJ22_resize_10 13 rfl rfl)
theorem dJ22_resize_249 : decode cJ22_resize 249 = .ok (.ifCond .ne 29, 3) := dk_154 0 29 (dk_at dksJ22_resize_10 14 rfl rfl)
theorem dJ22_resize_252 : decode cJ22_resize 252 = .ok (.aload 10, 2) := dk_25 10 (dk_at dksJ22_resize_10 17 rfl rfl)
theorem dJ22_resize_254 : decode cJ22_resize 254 = .ok (.ifnonnull 10, 3) := dk_199 0 10 (dk_at dksJ22_resize_10 19 rfl rfl)
theorem dJ22_resize_257 : decode cJ22_resize 257 = .ok (.aload 8, 2) := dk_25 8 (dk_at dksJ22_resize_10 22 rfl rfl)
theorem dJ22_resize_259 : decode cJ22_resize 259 = .ok (.astore 9, 2) := dk_58 9 (dk_at dksJ22_resize_11 0 rfl rfl)
theorem dJ22_resize_261 : decode cJ22_resize 261 = .ok (.goto 10, 3) := dk_167 0 10 (dk_at dksJ22_resize_11 2 rfl rfl)
theorem dJ22_resize_264 : decode cJ22_resize 264 = .ok (.aload 10, 2) := dk_25 10 (dk_at dksJ22_resize_11 5 rfl rfl)
theorem dJ22_resize_266 : decode cJ22_resize 266 = .ok (.aload 8, 2) := dk_25 8 (dk_at dksJ22_resize_11 7 rfl rfl)
theorem dJ22_resize_268 : decode cJ22_resize 268 = .ok (.putfield 177, 3) := dk_181 0 177 (dk_at dksJ22_resize_11 9 rfl rfl)
theorem dJ22_resize_271 : decode cJ22_resize 271 = .ok (.aload 8, 2) := dk_25 8 (dk_at dksJ22_resize_11 12 rfl rfl)
theorem dJ22_resize_273 : decode cJ22_resize 273 = .ok (.astore 10, 2) := dk_58 10 (dk_at dksJ22_resize_11 14 rfl rfl)
theorem dJ22_resize_275 : decode cJ22_resize 275 = .ok (.goto 26, 3) := dk_167 0 26 (dk_at dksJ22_resize_11 16 rfl rfl)
theorem dJ22_resize_278 : decode cJ22_resize 278 = .ok (.aload 12, 2) := dk_25 12 (dk_at dksJ22_resize_11 19 rfl rfl)
theorem dJ22_resize_280 : decode cJ22_resize 280 = .ok (.ifnonnull 10, 3) := dk_199 0 10 (dk_at dksJ22_resize_11 21 rfl rfl)
theorem dJ22_resize_283 : decode cJ22_resize 283 = .ok (.aload 8, 2) := dk_25 8 (dk_at dksJ22_resize_12 0 rfl rfl)
theorem dJ22_resize_285 : decode cJ22_resize 285 = .ok (.astore 11, 2) := dk_58 11 (dk_at dksJ22_resize_12 2 rfl rfl)
theorem dJ22_resize_287 : decode cJ22_resize 287 = .ok (.goto 10, 3) := dk_167 0 10 (dk_at dksJ22_resize_12 4 rfl rfl)
theorem dJ22_resize_290 : decode cJ22_resize 290 = .ok (.aload 12, 2) := dk_25 12 (dk_at dksJ22_resize_12 7 rfl rfl)
theorem dJ22_resize_292 : decode cJ22_resize 292 = .ok (.aload 8, 2) := dk_25 8 (dk_at dksJ22_resize_12 9 rfl rfl)
theorem dJ22_resize_294 : decode cJ22_resize 294 = .ok (.putfield 177, 3) := dk_181 0 177 (dk_at dksJ22_resize_12 11 rfl rfl)
theorem dJ22_resize_297 : decode cJ22_resize 297 = .ok (.aload 8, 2) := dk_25 8 (dk_at dksJ22_resize_12 14 rfl rfl)
theorem dJ22_resize_299 : decode cJ22_resize 299 = .ok (.astore 12, 2) := dk_58 12 (dk_at dksJ22_resize_12 16 rfl rfl)
theorem dJ22_resize_301 : decode cJ22_resize 301 = .ok (.aload 13, 2) := dk_25 13 (dk_at dksJ22_resize_12 18 rfl rfl)
theorem dJ22_resize_303 : decode cJ22_resize 303 = .ok (.dup, 1) := dk_89 (dk_at dksJ22_resize_12 20 rfl rfl)
theorem dJ22_resize_304 : decode cJ22_resize 304 = .ok (.astore 8, 2) := dk_58 8 (dk_at dksJ22_resize_12 21 rfl rfl)
theorem dJ22_resize_306 : decode cJ22_resize 306 = .ok (.ifnonnull (-71), 3) := dk_199 255 185 (dk_at dksJ22_resize_13 0 rfl rfl)
theorem dJ22_resize_309 : decode cJ22_resize 309 = .ok (.aload 10, 2) := dk_25 10 (dk_at dksJ22_resize_13 3 rfl rfl)
theorem dJ22_resize_311 : decode cJ22_resize 311 = .ok (.ifnull 16, 3) := dk_198 0 16 (dk_at dksJ22_resize_13 5 rfl rfl)
theorem dJ22_resize_314 : decode cJ22_resize 314 = .ok (.aload 10, 2) := dk_25 10 (dk_at dksJ22_resize_13 8 rfl rfl)
theorem dJ22_resize_316 : decode cJ22_resize 316 = .ok (.aconst_null, 1) := dk_1 (dk_at dksJ22_resize_13 10 rfl rfl)
theorem dJ22_resize_317 : decode cJ22_resize 317 = .ok (.putfield 177, 3) := dk_181 0 177 (dk_at dksJ22_resize_13 11 rfl rfl)
theorem dJ22_resize_320 : decode cJ22_resize 320 = .ok (.aload 6, 2) := dk_25 6 (dk_at dksJ22_resize_13 14 rfl rfl)
theorem dJ22_resize_322 : decode cJ22_resize 322 = .ok (.iload 7, 2) := dk_21 7 (dk_at dksJ22_resize_13 16 rfl rfl)
theorem dJ22_resize_324 : decode cJ22_resize 324 = .ok (.aload 9, 2) := dk_25 9 (dk_at dksJ22_resize_13 18 rfl rfl)
theorem dJ22_resize_326 : decode cJ22_resize 326 = .ok (.aastore, 1) := dk_83 (dk_at dksJ22_resize_13 20 rfl rfl)
theorem dJ22_resize_327 : decode cJ22_resize 327 = .ok (.aload 12, 2) := dk_25 12 (dk_at dksJ22_resize_13 21 rfl rfl)
theorem dJ22_resize_329 : decode cJ22_resize 329 = .ok (.ifnull 18, 3) := dk_198 0 18 (dk_at dksJ22_resize_14 0 rfl rfl)
theorem dJ22_resize_332 : decode cJ22_resize 332 = .ok (.aload 12, 2) := dk_25 12 (dk_at dksJ22_resize_14 3 rfl rfl)
theorem dJ22_resize_334 : decode cJ22_resize 334 = .ok (.aconst_null, 1) := dk_1 (dk_at dksJ22_resize_14 5 rfl rfl)
theorem dJ22_resize_335 : decode cJ22_resize 335 = .ok (.putfield 177, 3) := dk_181 0 177 (dk_at dksJ22_resize_14 6 rfl rfl)
theorem dJ22_resize_338 : decode cJ22_resize 338 = .ok (.aload 6, 2) := dk_25 6 (dk_at dksJ22_resize_14 9 rfl rfl)
theorem dJ22_resize_340 : decode cJ22_resize 340 = .ok (.iload 7, 2) := dk_21 7 (dk_at dksJ22_resize_14 11 rfl rfl)
theorem dJ22_resize_342 : decode cJ22_resize 342 = .ok (.iload_n 2, 1) := dk_28 (dk_at dksJ22_resize_14 13 rfl rfl)
theorem dJ22_resize_343 : decode cJ22_resize 343 = .ok (.iadd, 1) := dk_96 (dk_at dksJ22_resize_14 14 rfl rfl)
theorem dJ22_resize_344 : decode cJ22_resize 344 = .ok (.aload 11, 2) := dk_25 11 (dk_at dksJ22_resize_14 15 rfl rfl)
theorem dJ22_resize_346 : decode cJ22_resize 346 = .ok (.aastore, 1) := dk_83 (dk_at dksJ22_resize_14 17 rfl rfl)
theorem dJ22_resize_347 : decode cJ22_resize 347 = .ok (.iinc 7 1, 3) := dk_132 7 1 (dk_at dksJ22_resize_14 18 rfl rfl)
theorem dJ22_resize_350 : decode cJ22_resize 350 = .ok (.goto (-199), 3) := dk_167 255 57 (dk_at dksJ22_resize_14 21 rfl rfl)
theorem dJ22_resize_353 : decode cJ22_resize 353 = .ok (.aload 6, 2) := dk_25 6 (dk_at dksJ22_resize_15 0 rfl rfl)
theorem dJ22_resize_355 : decode cJ22_resize 355 = .ok (.areturn, 1) := dk_176 (dk_at dksJ22_resize_15 2 rfl rfl)
abbrev cJ22_replacementNode : ByteArray := prog_79_method_47_code
def yJ22_replacementNode : MethodName := ⟨RJ22, "replacementNode", "(Ljava/util/HashMap$Node;Ljava/util/HashMap$Node;)Ljava/util/HashMap$Node;"⟩
def dkwJ22_replacementNode_0 : List UInt8 := [187, 0, 163, 89, 43, 180, 0, 168, 43, 180, 0, 170, 43, 180, 0, 162, 44, 183, 1, 119, 176]
abbrev dktJ22_replacementNode_0 : List UInt8 := dkwJ22_replacementNode_0 ++ []
theorem dksJ22_replacementNode_0 : cJ22_replacementNode.data.toList.drop 0 = dktJ22_replacementNode_0 := by decide +kernel
theorem dJ22_replacementNode_0 : decode cJ22_replacementNode 0 = .ok (.new 163, 3) := dk_187 0 163 (dk_at dksJ22_replacementNode_0 0 rfl rfl)
theorem dJ22_replacementNode_3 : decode cJ22_replacementNode 3 = .ok (.dup, 1) := dk_89 (dk_at dksJ22_replacementNode_0 3 rfl rfl)
theorem dJ22_replacementNode_4 : decode cJ22_replacementNode 4 = .ok (.aload_n 1, 1) := dk_43 (dk_at dksJ22_replacementNode_0 4 rfl rfl)
theorem dJ22_replacementNode_5 : decode cJ22_replacementNode 5 = .ok (.getfield 168, 3) := dk_180 0 168 (dk_at dksJ22_replacementNode_0 5 rfl rfl)
theorem dJ22_replacementNode_8 : decode cJ22_replacementNode 8 = .ok (.aload_n 1, 1) := dk_43 (dk_at dksJ22_replacementNode_0 8 rfl rfl)
theorem dJ22_replacementNode_9 : decode cJ22_replacementNode 9 = .ok (.getfield 170, 3) := dk_180 0 170 (dk_at dksJ22_replacementNode_0 9 rfl rfl)
theorem dJ22_replacementNode_12 : decode cJ22_replacementNode 12 = .ok (.aload_n 1, 1) := dk_43 (dk_at dksJ22_replacementNode_0 12 rfl rfl)
theorem dJ22_replacementNode_13 : decode cJ22_replacementNode 13 = .ok (.getfield 162, 3) := dk_180 0 162 (dk_at dksJ22_replacementNode_0 13 rfl rfl)
theorem dJ22_replacementNode_16 : decode cJ22_replacementNode 16 = .ok (.aload_n 2, 1) := dk_44 (dk_at dksJ22_replacementNode_0 16 rfl rfl)
theorem dJ22_replacementNode_17 : decode cJ22_replacementNode 17 = .ok (.invokespecial 375, 3) := dk_183 1 119 (dk_at dksJ22_replacementNode_0 17 rfl rfl)
theorem dJ22_replacementNode_20 : decode cJ22_replacementNode 20 = .ok (.areturn, 1) := dk_176 (dk_at dksJ22_replacementNode_0 20 rfl rfl)
abbrev cJ22_newNode : ByteArray := prog_79_method_46_code
def yJ22_newNode : MethodName := ⟨RJ22, "newNode", "(ILjava/lang/Object;Ljava/lang/Object;Ljava/util/HashMap$Node;)Ljava/util/HashMap$Node;"⟩
def dkwJ22_newNode_0 : List UInt8 := [187, 0, 163, 89, 27, 44, 45, 25, 4, 183, 1, 119, 176]
abbrev dktJ22_newNode_0 : List UInt8 := dkwJ22_newNode_0 ++ []
theorem dksJ22_newNode_0 : cJ22_newNode.data.toList.drop 0 = dktJ22_newNode_0 := by decide +kernel
theorem dJ22_newNode_0 : decode cJ22_newNode 0 = .ok (.new 163, 3) := dk_187 0 163 (dk_at dksJ22_newNode_0 0 rfl rfl)
theorem dJ22_newNode_3 : decode cJ22_newNode 3 = .ok (.dup, 1) := dk_89 (dk_at dksJ22_newNode_0 3 rfl rfl)
theorem dJ22_newNode_4 : decode cJ22_newNode 4 = .ok (.iload_n 1, 1) := dk_27 (dk_at dksJ22_newNode_0 4 rfl rfl)
theorem dJ22_newNode_5 : decode cJ22_newNode 5 = .ok (.aload_n 2, 1) := dk_44 (dk_at dksJ22_newNode_0 5 rfl rfl)
theorem dJ22_newNode_6 : decode cJ22_newNode 6 = .ok (.aload_n 3, 1) := dk_45 (dk_at dksJ22_newNode_0 6 rfl rfl)
theorem dJ22_newNode_7 : decode cJ22_newNode 7 = .ok (.aload 4, 2) := dk_25 4 (dk_at dksJ22_newNode_0 7 rfl rfl)
theorem dJ22_newNode_9 : decode cJ22_newNode 9 = .ok (.invokespecial 375, 3) := dk_183 1 119 (dk_at dksJ22_newNode_0 9 rfl rfl)
theorem dJ22_newNode_12 : decode cJ22_newNode 12 = .ok (.areturn, 1) := dk_176 (dk_at dksJ22_newNode_0 12 rfl rfl)
abbrev cJ22_newTreeNode : ByteArray := prog_79_method_48_code
def yJ22_newTreeNode : MethodName := ⟨RJ22, "newTreeNode", "(ILjava/lang/Object;Ljava/lang/Object;Ljava/util/HashMap$Node;)Ljava/util/HashMap$TreeNode;"⟩
def dkwJ22_newTreeNode_0 : List UInt8 := [187, 0, 180, 89, 27, 44, 45, 25, 4, 183, 1, 122, 176]
abbrev dktJ22_newTreeNode_0 : List UInt8 := dkwJ22_newTreeNode_0 ++ []
theorem dksJ22_newTreeNode_0 : cJ22_newTreeNode.data.toList.drop 0 = dktJ22_newTreeNode_0 := by decide +kernel
theorem dJ22_newTreeNode_0 : decode cJ22_newTreeNode 0 = .ok (.new 180, 3) := dk_187 0 180 (dk_at dksJ22_newTreeNode_0 0 rfl rfl)
theorem dJ22_newTreeNode_3 : decode cJ22_newTreeNode 3 = .ok (.dup, 1) := dk_89 (dk_at dksJ22_newTreeNode_0 3 rfl rfl)
theorem dJ22_newTreeNode_4 : decode cJ22_newTreeNode 4 = .ok (.iload_n 1, 1) := dk_27 (dk_at dksJ22_newTreeNode_0 4 rfl rfl)
theorem dJ22_newTreeNode_5 : decode cJ22_newTreeNode 5 = .ok (.aload_n 2, 1) := dk_44 (dk_at dksJ22_newTreeNode_0 5 rfl rfl)
theorem dJ22_newTreeNode_6 : decode cJ22_newTreeNode 6 = .ok (.aload_n 3, 1) := dk_45 (dk_at dksJ22_newTreeNode_0 6 rfl rfl)
theorem dJ22_newTreeNode_7 : decode cJ22_newTreeNode 7 = .ok (.aload 4, 2) := dk_25 4 (dk_at dksJ22_newTreeNode_0 7 rfl rfl)
theorem dJ22_newTreeNode_9 : decode cJ22_newTreeNode 9 = .ok (.invokespecial 378, 3) := dk_183 1 122 (dk_at dksJ22_newTreeNode_0 9 rfl rfl)
theorem dJ22_newTreeNode_12 : decode cJ22_newTreeNode 12 = .ok (.areturn, 1) := dk_176 (dk_at dksJ22_newTreeNode_0 12 rfl rfl)
abbrev cJ22_treeifyBin : ByteArray := prog_79_method_18_code
def yJ22_treeifyBin : MethodName := ⟨RJ22, "treeifyBin", "([Ljava/util/HashMap$Node;I)V"⟩
def dkwJ22_treeifyBin_4 : List UInt8 := [21, 4, 25, 6, 91, 83, 198, 0, 9, 25, 6, 43, 182, 0, 224, 177]
abbrev dktJ22_treeifyBin_4 : List UInt8 := dkwJ22_treeifyBin_4 ++ []
def dkwJ22_treeifyBin_3 : List UInt8 := [25, 7, 25, 8, 181, 0, 223, 25, 8, 58, 7, 25, 5, 180, 0, 177, 89, 58, 5, 199, 255, 209, 43]
abbrev dktJ22_treeifyBin_3 : List UInt8 := dkwJ22_treeifyBin_3 ++ dktJ22_treeifyBin_4
def dkwJ22_treeifyBin_2 : List UInt8 := [182, 0, 215, 58, 8, 25, 7, 199, 0, 10, 25, 8, 58, 6, 167, 0, 17, 25, 8, 25, 7, 181, 0, 219]
abbrev dktJ22_treeifyBin_2 : List UInt8 := dkwJ22_treeifyBin_2 ++ dktJ22_treeifyBin_3
def dkwJ22_treeifyBin_1 : List UInt8 := [100, 28, 126, 89, 54, 4, 50, 89, 58, 5, 198, 0, 75, 1, 58, 6, 1, 58, 7, 42, 25, 5, 1]
abbrev dktJ22_treeifyBin_1 : List UInt8 := dkwJ22_treeifyBin_1 ++ dktJ22_treeifyBin_2
def dkwJ22_treeifyBin_0 : List UInt8 := [43, 198, 0, 12, 43, 190, 89, 62, 16, 64, 162, 0, 11, 42, 182, 0, 117, 87, 167, 0, 91, 43, 29, 4]
abbrev dktJ22_treeifyBin_0 : List UInt8 := dkwJ22_treeifyBin_0 ++ dktJ22_treeifyBin_1
theorem dksJ22_treeifyBin_0 : cJ22_treeifyBin.data.toList.drop 0 = dktJ22_treeifyBin_0 := by decide +kernel
theorem dksJ22_treeifyBin_1 : cJ22_treeifyBin.data.toList.drop 24 = dktJ22_treeifyBin_1 := dk_seg dksJ22_treeifyBin_0 24 rfl rfl
theorem dksJ22_treeifyBin_2 : cJ22_treeifyBin.data.toList.drop 47 = dktJ22_treeifyBin_2 := dk_seg dksJ22_treeifyBin_1 23 rfl rfl
theorem dksJ22_treeifyBin_3 : cJ22_treeifyBin.data.toList.drop 71 = dktJ22_treeifyBin_3 := dk_seg dksJ22_treeifyBin_2 24 rfl rfl
theorem dksJ22_treeifyBin_4 : cJ22_treeifyBin.data.toList.drop 94 = dktJ22_treeifyBin_4 := dk_seg dksJ22_treeifyBin_3 23 rfl rfl
theorem dJ22_treeifyBin_0 : decode cJ22_treeifyBin 0 = .ok (.aload_n 1, 1) := dk_43 (dk_at dksJ22_treeifyBin_0 0 rfl rfl)
theorem dJ22_treeifyBin_1 : decode cJ22_treeifyBin 1 = .ok (.ifnull 12, 3) := dk_198 0 12 (dk_at dksJ22_treeifyBin_0 1 rfl rfl)
theorem dJ22_treeifyBin_4 : decode cJ22_treeifyBin 4 = .ok (.aload_n 1, 1) := dk_43 (dk_at dksJ22_treeifyBin_0 4 rfl rfl)
theorem dJ22_treeifyBin_5 : decode cJ22_treeifyBin 5 = .ok (.arraylength, 1) := dk_190 (dk_at dksJ22_treeifyBin_0 5 rfl rfl)
theorem dJ22_treeifyBin_6 : decode cJ22_treeifyBin 6 = .ok (.dup, 1) := dk_89 (dk_at dksJ22_treeifyBin_0 6 rfl rfl)
theorem dJ22_treeifyBin_7 : decode cJ22_treeifyBin 7 = .ok (.istore_n 3, 1) := dk_62 (dk_at dksJ22_treeifyBin_0 7 rfl rfl)
theorem dJ22_treeifyBin_8 : decode cJ22_treeifyBin 8 = .ok (.bipush 64, 2) := dk_16 64 (dk_at dksJ22_treeifyBin_0 8 rfl rfl)
theorem dJ22_treeifyBin_10 : decode cJ22_treeifyBin 10 = .ok (.if_icmp .ge 11, 3) := dk_162 0 11 (dk_at dksJ22_treeifyBin_0 10 rfl rfl)
theorem dJ22_treeifyBin_13 : decode cJ22_treeifyBin 13 = .ok (.aload_n 0, 1) := dk_42 (dk_at dksJ22_treeifyBin_0 13 rfl rfl)
theorem dJ22_treeifyBin_14 : decode cJ22_treeifyBin 14 = .ok (.invokevirtual 117, 3) := dk_182 0 117 (dk_at dksJ22_treeifyBin_0 14 rfl rfl)
theorem dJ22_treeifyBin_17 : decode cJ22_treeifyBin 17 = .ok (.pop, 1) := dk_87 (dk_at dksJ22_treeifyBin_0 17 rfl rfl)
theorem dJ22_treeifyBin_18 : decode cJ22_treeifyBin 18 = .ok (.goto 91, 3) := dk_167 0 91 (dk_at dksJ22_treeifyBin_0 18 rfl rfl)
theorem dJ22_treeifyBin_21 : decode cJ22_treeifyBin 21 = .ok (.aload_n 1, 1) := dk_43 (dk_at dksJ22_treeifyBin_0 21 rfl rfl)
theorem dJ22_treeifyBin_22 : decode cJ22_treeifyBin 22 = .ok (.iload_n 3, 1) := dk_29 (dk_at dksJ22_treeifyBin_0 22 rfl rfl)
theorem dJ22_treeifyBin_23 : decode cJ22_treeifyBin 23 = .ok (.iconst 1, 1) := dk_4 (dk_at dksJ22_treeifyBin_0 23 rfl rfl)
theorem dJ22_treeifyBin_24 : decode cJ22_treeifyBin 24 = .ok (.isub, 1) := dk_100 (dk_at dksJ22_treeifyBin_1 0 rfl rfl)
theorem dJ22_treeifyBin_25 : decode cJ22_treeifyBin 25 = .ok (.iload_n 2, 1) := dk_28 (dk_at dksJ22_treeifyBin_1 1 rfl rfl)
theorem dJ22_treeifyBin_26 : decode cJ22_treeifyBin 26 = .ok (.iand, 1) := dk_126 (dk_at dksJ22_treeifyBin_1 2 rfl rfl)
theorem dJ22_treeifyBin_27 : decode cJ22_treeifyBin 27 = .ok (.dup, 1) := dk_89 (dk_at dksJ22_treeifyBin_1 3 rfl rfl)
theorem dJ22_treeifyBin_28 : decode cJ22_treeifyBin 28 = .ok (.istore 4, 2) := dk_54 4 (dk_at dksJ22_treeifyBin_1 4 rfl rfl)
theorem dJ22_treeifyBin_30 : decode cJ22_treeifyBin 30 = .ok (.aaload, 1) := dk_50 (dk_at dksJ22_treeifyBin_1 6 rfl rfl)
theorem dJ22_treeifyBin_31 : decode cJ22_treeifyBin 31 = .ok (.dup, 1) := dk_89 (dk_at dksJ22_treeifyBin_1 7 rfl rfl)
theorem dJ22_treeifyBin_32 : decode cJ22_treeifyBin 32 = .ok (.astore 5, 2) := dk_58 5 (dk_at dksJ22_treeifyBin_1 8 rfl rfl)
theorem dJ22_treeifyBin_34 : decode cJ22_treeifyBin 34 = .ok (.ifnull 75, 3) := dk_198 0 75 (dk_at dksJ22_treeifyBin_1 10 rfl rfl)
theorem dJ22_treeifyBin_37 : decode cJ22_treeifyBin 37 = .ok (.aconst_null, 1) := dk_1 (dk_at dksJ22_treeifyBin_1 13 rfl rfl)
theorem dJ22_treeifyBin_38 : decode cJ22_treeifyBin 38 = .ok (.astore 6, 2) := dk_58 6 (dk_at dksJ22_treeifyBin_1 14 rfl rfl)
theorem dJ22_treeifyBin_40 : decode cJ22_treeifyBin 40 = .ok (.aconst_null, 1) := dk_1 (dk_at dksJ22_treeifyBin_1 16 rfl rfl)
theorem dJ22_treeifyBin_41 : decode cJ22_treeifyBin 41 = .ok (.astore 7, 2) := dk_58 7 (dk_at dksJ22_treeifyBin_1 17 rfl rfl)
theorem dJ22_treeifyBin_43 : decode cJ22_treeifyBin 43 = .ok (.aload_n 0, 1) := dk_42 (dk_at dksJ22_treeifyBin_1 19 rfl rfl)
theorem dJ22_treeifyBin_44 : decode cJ22_treeifyBin 44 = .ok (.aload 5, 2) := dk_25 5 (dk_at dksJ22_treeifyBin_1 20 rfl rfl)
theorem dJ22_treeifyBin_46 : decode cJ22_treeifyBin 46 = .ok (.aconst_null, 1) := dk_1 (dk_at dksJ22_treeifyBin_1 22 rfl rfl)
theorem dJ22_treeifyBin_47 : decode cJ22_treeifyBin 47 = .ok (.invokevirtual 215, 3) := dk_182 0 215 (dk_at dksJ22_treeifyBin_2 0 rfl rfl)
theorem dJ22_treeifyBin_50 : decode cJ22_treeifyBin 50 = .ok (.astore 8, 2) := dk_58 8 (dk_at dksJ22_treeifyBin_2 3 rfl rfl)
theorem dJ22_treeifyBin_52 : decode cJ22_treeifyBin 52 = .ok (.aload 7, 2) := dk_25 7 (dk_at dksJ22_treeifyBin_2 5 rfl rfl)
theorem dJ22_treeifyBin_54 : decode cJ22_treeifyBin 54 = .ok (.ifnonnull 10, 3) := dk_199 0 10 (dk_at dksJ22_treeifyBin_2 7 rfl rfl)
theorem dJ22_treeifyBin_57 : decode cJ22_treeifyBin 57 = .ok (.aload 8, 2) := dk_25 8 (dk_at dksJ22_treeifyBin_2 10 rfl rfl)
theorem dJ22_treeifyBin_59 : decode cJ22_treeifyBin 59 = .ok (.astore 6, 2) := dk_58 6 (dk_at dksJ22_treeifyBin_2 12 rfl rfl)
theorem dJ22_treeifyBin_61 : decode cJ22_treeifyBin 61 = .ok (.goto 17, 3) := dk_167 0 17 (dk_at dksJ22_treeifyBin_2 14 rfl rfl)
theorem dJ22_treeifyBin_64 : decode cJ22_treeifyBin 64 = .ok (.aload 8, 2) := dk_25 8 (dk_at dksJ22_treeifyBin_2 17 rfl rfl)
theorem dJ22_treeifyBin_66 : decode cJ22_treeifyBin 66 = .ok (.aload 7, 2) := dk_25 7 (dk_at dksJ22_treeifyBin_2 19 rfl rfl)
theorem dJ22_treeifyBin_68 : decode cJ22_treeifyBin 68 = .ok (.putfield 219, 3) := dk_181 0 219 (dk_at dksJ22_treeifyBin_2 21 rfl rfl)
theorem dJ22_treeifyBin_71 : decode cJ22_treeifyBin 71 = .ok (.aload 7, 2) := dk_25 7 (dk_at dksJ22_treeifyBin_3 0 rfl rfl)
theorem dJ22_treeifyBin_73 : decode cJ22_treeifyBin 73 = .ok (.aload 8, 2) := dk_25 8 (dk_at dksJ22_treeifyBin_3 2 rfl rfl)
theorem dJ22_treeifyBin_75 : decode cJ22_treeifyBin 75 = .ok (.putfield 223, 3) := dk_181 0 223 (dk_at dksJ22_treeifyBin_3 4 rfl rfl)
theorem dJ22_treeifyBin_78 : decode cJ22_treeifyBin 78 = .ok (.aload 8, 2) := dk_25 8 (dk_at dksJ22_treeifyBin_3 7 rfl rfl)
theorem dJ22_treeifyBin_80 : decode cJ22_treeifyBin 80 = .ok (.astore 7, 2) := dk_58 7 (dk_at dksJ22_treeifyBin_3 9 rfl rfl)
theorem dJ22_treeifyBin_82 : decode cJ22_treeifyBin 82 = .ok (.aload 5, 2) := dk_25 5 (dk_at dksJ22_treeifyBin_3 11 rfl rfl)
theorem dJ22_treeifyBin_84 : decode cJ22_treeifyBin 84 = .ok (.getfield 177, 3) := dk_180 0 177 (dk_at dksJ22_treeifyBin_3 13 rfl rfl)
theorem dJ22_treeifyBin_87 : decode cJ22_treeifyBin 87 = .ok (.dup, 1) := dk_89 (dk_at dksJ22_treeifyBin_3 16 rfl rfl)
theorem dJ22_treeifyBin_88 : decode cJ22_treeifyBin 88 = .ok (.astore 5, 2) := dk_58 5 (dk_at dksJ22_treeifyBin_3 17 rfl rfl)
theorem dJ22_treeifyBin_90 : decode cJ22_treeifyBin 90 = .ok (.ifnonnull (-47), 3) := dk_199 255 209 (dk_at dksJ22_treeifyBin_3 19 rfl rfl)
theorem dJ22_treeifyBin_93 : decode cJ22_treeifyBin 93 = .ok (.aload_n 1, 1) := dk_43 (dk_at dksJ22_treeifyBin_3 22 rfl rfl)
theorem dJ22_treeifyBin_94 : decode cJ22_treeifyBin 94 = .ok (.iload 4, 2) := dk_21 4 (dk_at dksJ22_treeifyBin_4 0 rfl rfl)
theorem dJ22_treeifyBin_96 : decode cJ22_treeifyBin 96 = .ok (.aload 6, 2) := dk_25 6 (dk_at dksJ22_treeifyBin_4 2 rfl rfl)
theorem dJ22_treeifyBin_98 : decode cJ22_treeifyBin 98 = .ok (.dup_x2, 1) := dk_91 (dk_at dksJ22_treeifyBin_4 4 rfl rfl)
theorem dJ22_treeifyBin_99 : decode cJ22_treeifyBin 99 = .ok (.aastore, 1) := dk_83 (dk_at dksJ22_treeifyBin_4 5 rfl rfl)
theorem dJ22_treeifyBin_100 : decode cJ22_treeifyBin 100 = .ok (.ifnull 9, 3) := dk_198 0 9 (dk_at dksJ22_treeifyBin_4 6 rfl rfl)
theorem dJ22_treeifyBin_103 : decode cJ22_treeifyBin 103 = .ok (.aload 6, 2) := dk_25 6 (dk_at dksJ22_treeifyBin_4 9 rfl rfl)
theorem dJ22_treeifyBin_105 : decode cJ22_treeifyBin 105 = .ok (.aload_n 1, 1) := dk_43 (dk_at dksJ22_treeifyBin_4 11 rfl rfl)
theorem dJ22_treeifyBin_106 : decode cJ22_treeifyBin 106 = .ok (.invokevirtual 224, 3) := dk_182 0 224 (dk_at dksJ22_treeifyBin_4 12 rfl rfl)
theorem dJ22_treeifyBin_109 : decode cJ22_treeifyBin 109 = .ok (.return_, 1) := dk_177 (dk_at dksJ22_treeifyBin_4 15 rfl rfl)
abbrev cJ22_replacementTreeNode : ByteArray := prog_79_method_49_code
def yJ22_replacementTreeNode : MethodName := ⟨RJ22, "replacementTreeNode", "(Ljava/util/HashMap$Node;Ljava/util/HashMap$Node;)Ljava/util/HashMap$TreeNode;"⟩
def dkwJ22_replacementTreeNode_0 : List UInt8 := [187, 0, 180, 89, 43, 180, 0, 168, 43, 180, 0, 170, 43, 180, 0, 162, 44, 183, 1, 122, 176]
abbrev dktJ22_replacementTreeNode_0 : List UInt8 := dkwJ22_replacementTreeNode_0 ++ []
theorem dksJ22_replacementTreeNode_0 : cJ22_replacementTreeNode.data.toList.drop 0 = dktJ22_replacementTreeNode_0 := by decide +kernel
theorem dJ22_replacementTreeNode_0 : decode cJ22_replacementTreeNode 0 = .ok (.new 180, 3) := dk_187 0 180 (dk_at dksJ22_replacementTreeNode_0 0 rfl rfl)
theorem dJ22_replacementTreeNode_3 : decode cJ22_replacementTreeNode 3 = .ok (.dup, 1) := dk_89 (dk_at dksJ22_replacementTreeNode_0 3 rfl rfl)
theorem dJ22_replacementTreeNode_4 : decode cJ22_replacementTreeNode 4 = .ok (.aload_n 1, 1) := dk_43 (dk_at dksJ22_replacementTreeNode_0 4 rfl rfl)
theorem dJ22_replacementTreeNode_5 : decode cJ22_replacementTreeNode 5 = .ok (.getfield 168, 3) := dk_180 0 168 (dk_at dksJ22_replacementTreeNode_0 5 rfl rfl)
theorem dJ22_replacementTreeNode_8 : decode cJ22_replacementTreeNode 8 = .ok (.aload_n 1, 1) := dk_43 (dk_at dksJ22_replacementTreeNode_0 8 rfl rfl)
theorem dJ22_replacementTreeNode_9 : decode cJ22_replacementTreeNode 9 = .ok (.getfield 170, 3) := dk_180 0 170 (dk_at dksJ22_replacementTreeNode_0 9 rfl rfl)
theorem dJ22_replacementTreeNode_12 : decode cJ22_replacementTreeNode 12 = .ok (.aload_n 1, 1) := dk_43 (dk_at dksJ22_replacementTreeNode_0 12 rfl rfl)
theorem dJ22_replacementTreeNode_13 : decode cJ22_replacementTreeNode 13 = .ok (.getfield 162, 3) := dk_180 0 162 (dk_at dksJ22_replacementTreeNode_0 13 rfl rfl)
theorem dJ22_replacementTreeNode_16 : decode cJ22_replacementTreeNode 16 = .ok (.aload_n 2, 1) := dk_44 (dk_at dksJ22_replacementTreeNode_0 16 rfl rfl)
theorem dJ22_replacementTreeNode_17 : decode cJ22_replacementTreeNode 17 = .ok (.invokespecial 378, 3) := dk_183 1 122 (dk_at dksJ22_replacementTreeNode_0 17 rfl rfl)
theorem dJ22_replacementTreeNode_20 : decode cJ22_replacementTreeNode 20 = .ok (.areturn, 1) := dk_176 (dk_at dksJ22_replacementTreeNode_0 20 rfl rfl)
abbrev cJ22_afterNodeAccess : ByteArray := prog_79_method_51_code
def yJ22_afterNodeAccess : MethodName := ⟨RJ22, "afterNodeAccess", "(Ljava/util/HashMap$Node;)V"⟩
theorem dJ22_afterNodeAccess_0 : decode cJ22_afterNodeAccess 0 = .ok (.return_, 1) := by decide +kernel
abbrev cJ22_afterNodeInsertion : ByteArray := prog_79_method_52_code
def yJ22_afterNodeInsertion : MethodName := ⟨RJ22, "afterNodeInsertion", "(Z)V"⟩
theorem dJ22_afterNodeInsertion_0 : decode cJ22_afterNodeInsertion 0 = .ok (.return_, 1) := by decide +kernel
theorem q145 : (Jvm.Cond.initialized "java/util/HashMap") ∈ lw_all := lw_g (lw_at lw_m1 34 rfl) rfl
theorem q849 : (Jvm.Cond.selects "java/util/HashMap" ({ cls := "java/lang/Object", name := "getClass", desc := "()Ljava/lang/Class;" } : Jvm.MethodName) ({ cls := "java/lang/Object", name := "getClass", desc := "()Ljava/lang/Class;" } : Jvm.MethodName)) ∈ lw_all := lw_g (lw_at lw_m4 18 rfl) rfl
theorem q872 : (Jvm.Cond.instantiable "java/util/HashMap" (8 : Nat)) ∈ lw_all := lw_g (lw_at lw_m4 41 rfl) rfl
theorem q874 : (Jvm.Cond.instanceMethod ({ cls := "java/util/HashMap", name := "<init>", desc := "()V" } : Jvm.MethodName)) ∈ lw_all := lw_g (lw_at lw_m4 43 rfl) rfl
theorem q875 : (Jvm.Cond.code ({ cls := "java/util/HashMap", name := "<init>", desc := "()V" } : Jvm.MethodName) prog_79_method_7_code (1 : Nat) (Option.none : Option Jvm.ClassFile.FieldType)) ∈ lw_all := lw_g (lw_at lw_m4 44 rfl) rfl
theorem q876 : (Jvm.Cond.methodLink "java/util/HashMap" (43 : Nat) ({ cls := "java/util/AbstractMap", name := "<init>", desc := "()V" } : Jvm.MethodName)) ∈ lw_all := lw_g (lw_at lw_m4 45 rfl) rfl
theorem q880 : (Jvm.Cond.constantFloat "java/util/HashMap" (92 : Nat) (1061158912 : UInt32)) ∈ lw_all := lw_g (lw_at lw_m4 49 rfl) rfl
theorem q881 : (Jvm.Cond.fieldLink "java/util/HashMap" (105 : Nat) "java/util/HashMap" "table" "[Ljava/util/HashMap$Node;") ∈ lw_all := lw_g (lw_at lw_m4 50 rfl) rfl
theorem q882 : (Jvm.Cond.fieldLink "java/util/HashMap" (156 : Nat) "java/util/HashMap" "size" "I") ∈ lw_all := lw_g (lw_at lw_m4 51 rfl) rfl
theorem q883 : (Jvm.Cond.fieldLink "java/util/HashMap" (202 : Nat) "java/util/HashMap" "modCount" "I") ∈ lw_all := lw_g (lw_at lw_m4 52 rfl) rfl
theorem q884 : (Jvm.Cond.fieldLink "java/util/HashMap" (88 : Nat) "java/util/HashMap" "threshold" "I") ∈ lw_all := lw_g (lw_at lw_m4 53 rfl) rfl
theorem q885 : (Jvm.Cond.fieldLink "java/util/HashMap" (81 : Nat) "java/util/HashMap" "loadFactor" "F") ∈ lw_all := lw_g (lw_at lw_m4 54 rfl) rfl
theorem q886 : (Jvm.Cond.lays "java/util/HashMap" "java/util/HashMap" "table" "[Ljava/util/HashMap$Node;") ∈ lw_all := lw_g (lw_at lw_m4 55 rfl) rfl
theorem q887 : (Jvm.Cond.soleField "java/util/HashMap" "table") ∈ lw_all := lw_g (lw_at lw_m4 56 rfl) rfl
theorem q888 : (Jvm.Cond.lays "java/util/HashMap" "java/util/HashMap" "entrySet" "Ljava/util/Set;") ∈ lw_all := lw_g (lw_at lw_m4 57 rfl) rfl
theorem q889 : (Jvm.Cond.soleField "java/util/HashMap" "entrySet") ∈ lw_all := lw_g (lw_at lw_m4 58 rfl) rfl
theorem q890 : (Jvm.Cond.lays "java/util/HashMap" "java/util/HashMap" "size" "I") ∈ lw_all := lw_g (lw_at lw_m4 59 rfl) rfl
theorem q891 : (Jvm.Cond.soleField "java/util/HashMap" "size") ∈ lw_all := lw_g (lw_at lw_m4 60 rfl) rfl
theorem q892 : (Jvm.Cond.lays "java/util/HashMap" "java/util/HashMap" "modCount" "I") ∈ lw_all := lw_g (lw_at lw_m4 61 rfl) rfl
theorem q893 : (Jvm.Cond.soleField "java/util/HashMap" "modCount") ∈ lw_all := lw_g (lw_at lw_m4 62 rfl) rfl
theorem q894 : (Jvm.Cond.lays "java/util/HashMap" "java/util/HashMap" "threshold" "I") ∈ lw_all := lw_g (lw_at lw_m4 63 rfl) rfl
theorem q895 : (Jvm.Cond.soleField "java/util/HashMap" "threshold") ∈ lw_all := lw_g (lw_at lw_m4 64 rfl) rfl
theorem q896 : (Jvm.Cond.laysFinal "java/util/HashMap" "java/util/HashMap" "loadFactor" "F") ∈ lw_all := lw_g (lw_at lw_m4 65 rfl) rfl
theorem q897 : (Jvm.Cond.soleField "java/util/HashMap" "loadFactor") ∈ lw_all := lw_g (lw_at lw_m4 66 rfl) rfl
theorem q898 : (Jvm.Cond.lays "java/util/HashMap" "java/util/AbstractMap" "keySet" "Ljava/util/Set;") ∈ lw_all := lw_g (lw_at lw_m4 67 rfl) rfl
theorem q900 : (Jvm.Cond.lays "java/util/HashMap" "java/util/AbstractMap" "values" "Ljava/util/Collection;") ∈ lw_all := lw_g (lw_at lw_m4 69 rfl) rfl
theorem q902 : (Jvm.Cond.superclass "java/util/HashMap" "java/util/AbstractMap") ∈ lw_all := lw_g (lw_at lw_m4 71 rfl) rfl
theorem q1013 : (Jvm.Cond.instanceMethod ({ cls := "java/util/HashMap", name := "containsKey", desc := "(Ljava/lang/Object;)Z" } : Jvm.MethodName)) ∈ lw_all := lw_g (lw_at lw_m4 182 rfl) rfl
theorem q1014 : (Jvm.Cond.selects "java/util/HashMap" ({ cls := "java/util/HashMap", name := "containsKey", desc := "(Ljava/lang/Object;)Z" } : Jvm.MethodName) ({ cls := "java/util/HashMap", name := "containsKey", desc := "(Ljava/lang/Object;)Z" } : Jvm.MethodName)) ∈ lw_all := lw_g (lw_at lw_m4 183 rfl) rfl
theorem q1015 : (Jvm.Cond.code ({ cls := "java/util/HashMap", name := "containsKey", desc := "(Ljava/lang/Object;)Z" } : Jvm.MethodName) prog_79_method_14_code (2 : Nat) (Option.some Jvm.ClassFile.FieldType.boolean)) ∈ lw_all := lw_g (lw_at lw_m4 184 rfl) rfl
theorem q1016 : (Jvm.Cond.methodLink "java/util/HashMap" (158 : Nat) ({ cls := "java/util/HashMap", name := "getNode", desc := "(Ljava/lang/Object;)Ljava/util/HashMap$Node;" } : Jvm.MethodName)) ∈ lw_all := lw_g (lw_at lw_m4 185 rfl) rfl
theorem q1017 : (Jvm.Cond.instanceMethod ({ cls := "java/util/HashMap", name := "getNode", desc := "(Ljava/lang/Object;)Ljava/util/HashMap$Node;" } : Jvm.MethodName)) ∈ lw_all := lw_g (lw_at lw_m4 186 rfl) rfl
theorem q1018 : (Jvm.Cond.selects "java/util/HashMap" ({ cls := "java/util/HashMap", name := "getNode", desc := "(Ljava/lang/Object;)Ljava/util/HashMap$Node;" } : Jvm.MethodName) ({ cls := "java/util/HashMap", name := "getNode", desc := "(Ljava/lang/Object;)Ljava/util/HashMap$Node;" } : Jvm.MethodName)) ∈ lw_all := lw_g (lw_at lw_m4 187 rfl) rfl
theorem q1019 : (Jvm.Cond.code ({ cls := "java/util/HashMap", name := "getNode", desc := "(Ljava/lang/Object;)Ljava/util/HashMap$Node;" } : Jvm.MethodName) prog_79_method_13_code (8 : Nat) (Option.some (Jvm.ClassFile.FieldType.object "java/util/HashMap$Node"))) ∈ lw_all := lw_g (lw_at lw_m4 188 rfl) rfl
theorem q1020 : (Jvm.Cond.methodLink "java/util/HashMap" (149 : Nat) ({ cls := "java/util/HashMap", name := "hash", desc := "(Ljava/lang/Object;)I" } : Jvm.MethodName)) ∈ lw_all := lw_g (lw_at lw_m4 189 rfl) rfl
theorem q1021 : (Jvm.Cond.static ({ cls := "java/util/HashMap", name := "hash", desc := "(Ljava/lang/Object;)I" } : Jvm.MethodName)) ∈ lw_all := lw_g (lw_at lw_m4 190 rfl) rfl
theorem q1022 : (Jvm.Cond.code ({ cls := "java/util/HashMap", name := "hash", desc := "(Ljava/lang/Object;)I" } : Jvm.MethodName) prog_79_method_1_code (2 : Nat) (Option.some Jvm.ClassFile.FieldType.int)) ∈ lw_all := lw_g (lw_at lw_m4 191 rfl) rfl
theorem q1024 : (Jvm.Cond.methodLink "java/util/HashMap" (1 : Nat) ({ cls := "java/lang/Object", name := "hashCode", desc := "()I" } : Jvm.MethodName)) ∈ lw_all := lw_g (lw_at lw_m4 193 rfl) rfl
theorem q1139 : (Jvm.Cond.methodLink "java/util/HashMap" (173 : Nat) ({ cls := "java/lang/Object", name := "equals", desc := "(Ljava/lang/Object;)Z" } : Jvm.MethodName)) ∈ lw_all := lw_g (lw_at lw_m5 68 rfl) rfl
theorem q1197 : (Jvm.Cond.classLink "java/util/HashMap" (180 : Nat) "java/util/HashMap$TreeNode") ∈ lw_all := lw_g (lw_at lw_m5 126 rfl) rfl
theorem q1198 : (Jvm.Cond.methodLink "java/util/HashMap" (182 : Nat) ({ cls := "java/util/HashMap$TreeNode", name := "getTreeNode", desc := "(ILjava/lang/Object;)Ljava/util/HashMap$TreeNode;" } : Jvm.MethodName)) ∈ lw_all := lw_g (lw_at lw_m5 127 rfl) rfl
theorem q1212 : (Jvm.Cond.static ({ cls := "java/util/HashMap", name := "comparableClassFor", desc := "(Ljava/lang/Object;)Ljava/lang/Class;" } : Jvm.MethodName)) ∈ lw_all := lw_g (lw_at lw_m5 141 rfl) rfl
theorem q1213 : (Jvm.Cond.code ({ cls := "java/util/HashMap", name := "comparableClassFor", desc := "(Ljava/lang/Object;)Ljava/lang/Class;" } : Jvm.MethodName) prog_79_method_2_code (9 : Nat) (Option.some (Jvm.ClassFile.FieldType.object "java/lang/Class"))) ∈ lw_all := lw_g (lw_at lw_m5 142 rfl) rfl
theorem q1214 : (Jvm.Cond.classLink "java/util/HashMap" (7 : Nat) "java/lang/Comparable") ∈ lw_all := lw_g (lw_at lw_m5 143 rfl) rfl
theorem q1215 : (Jvm.Cond.methodLink "java/util/HashMap" (9 : Nat) ({ cls := "java/lang/Object", name := "getClass", desc := "()Ljava/lang/Class;" } : Jvm.MethodName)) ∈ lw_all := lw_g (lw_at lw_m5 144 rfl) rfl
theorem q1216 : (Jvm.Cond.classLink "java/util/HashMap" (13 : Nat) "java/lang/String") ∈ lw_all := lw_g (lw_at lw_m5 145 rfl) rfl
theorem q1218 : (Jvm.Cond.static ({ cls := "java/util/HashMap", name := "compareComparables", desc := "(Ljava/lang/Class;Ljava/lang/Object;Ljava/lang/Object;)I" } : Jvm.MethodName)) ∈ lw_all := lw_g (lw_at lw_m5 147 rfl) rfl
theorem q1219 : (Jvm.Cond.code ({ cls := "java/util/HashMap", name := "compareComparables", desc := "(Ljava/lang/Class;Ljava/lang/Object;Ljava/lang/Object;)I" } : Jvm.MethodName) prog_79_method_3_code (3 : Nat) (Option.some Jvm.ClassFile.FieldType.int)) ∈ lw_all := lw_g (lw_at lw_m5 148 rfl) rfl
theorem q1220 : (Jvm.Cond.interfaceEntry "java/util/HashMap" (30 : Nat)) ∈ lw_tbl := lw_at lw_m5 149 rfl
theorem q1221 : (Jvm.Cond.methodLink "java/util/HashMap" (30 : Nat) ({ cls := "java/lang/Comparable", name := "compareTo", desc := "(Ljava/lang/Object;)I" } : Jvm.MethodName)) ∈ lw_all := lw_g (lw_at lw_m5 150 rfl) rfl
theorem q1501 : (Jvm.Cond.instanceMethod ({ cls := "java/util/HashMap", name := "size", desc := "()I" } : Jvm.MethodName)) ∈ lw_all := lw_g (lw_at lw_m6 190 rfl) rfl
theorem q1502 : (Jvm.Cond.selects "java/util/HashMap" ({ cls := "java/util/HashMap", name := "size", desc := "()I" } : Jvm.MethodName) ({ cls := "java/util/HashMap", name := "size", desc := "()I" } : Jvm.MethodName)) ∈ lw_all := lw_g (lw_at lw_m6 191 rfl) rfl
theorem q1503 : (Jvm.Cond.code ({ cls := "java/util/HashMap", name := "size", desc := "()I" } : Jvm.MethodName) prog_79_method_10_code (1 : Nat) (Option.some Jvm.ClassFile.FieldType.int)) ∈ lw_all := lw_g (lw_at lw_m6 192 rfl) rfl
theorem q1557 : (Jvm.Cond.instanceMethod ({ cls := "java/util/HashMap", name := "get", desc := "(Ljava/lang/Object;)Ljava/lang/Object;" } : Jvm.MethodName)) ∈ lw_all := lw_g (lw_at lw_m7 6 rfl) rfl
theorem q1558 : (Jvm.Cond.selects "java/util/HashMap" ({ cls := "java/util/HashMap", name := "get", desc := "(Ljava/lang/Object;)Ljava/lang/Object;" } : Jvm.MethodName) ({ cls := "java/util/HashMap", name := "get", desc := "(Ljava/lang/Object;)Ljava/lang/Object;" } : Jvm.MethodName)) ∈ lw_all := lw_g (lw_at lw_m7 7 rfl) rfl
theorem q1559 : (Jvm.Cond.code ({ cls := "java/util/HashMap", name := "get", desc := "(Ljava/lang/Object;)Ljava/lang/Object;" } : Jvm.MethodName) prog_79_method_12_code (3 : Nat) (Option.some (Jvm.ClassFile.FieldType.object "java/lang/Object"))) ∈ lw_all := lw_g (lw_at lw_m7 8 rfl) rfl
theorem q1806 : (Jvm.Cond.instanceMethod ({ cls := "java/util/HashMap", name := "put", desc := "(Ljava/lang/Object;Ljava/lang/Object;)Ljava/lang/Object;" } : Jvm.MethodName)) ∈ lw_all := lw_g (lw_at lw_m8 15 rfl) rfl
theorem q1807 : (Jvm.Cond.selects "java/util/HashMap" ({ cls := "java/util/HashMap", name := "put", desc := "(Ljava/lang/Object;Ljava/lang/Object;)Ljava/lang/Object;" } : Jvm.MethodName) ({ cls := "java/util/HashMap", name := "put", desc := "(Ljava/lang/Object;Ljava/lang/Object;)Ljava/lang/Object;" } : Jvm.MethodName)) ∈ lw_all := lw_g (lw_at lw_m8 16 rfl) rfl
theorem q1808 : (Jvm.Cond.code ({ cls := "java/util/HashMap", name := "put", desc := "(Ljava/lang/Object;Ljava/lang/Object;)Ljava/lang/Object;" } : Jvm.MethodName) prog_79_method_15_code (3 : Nat) (Option.some (Jvm.ClassFile.FieldType.object "java/lang/Object"))) ∈ lw_all := lw_g (lw_at lw_m8 17 rfl) rfl
theorem q1809 : (Jvm.Cond.methodLink "java/util/HashMap" (152 : Nat) ({ cls := "java/util/HashMap", name := "putVal", desc := "(ILjava/lang/Object;Ljava/lang/Object;ZZ)Ljava/lang/Object;" } : Jvm.MethodName)) ∈ lw_all := lw_g (lw_at lw_m8 18 rfl) rfl
theorem q1810 : (Jvm.Cond.instanceMethod ({ cls := "java/util/HashMap", name := "putVal", desc := "(ILjava/lang/Object;Ljava/lang/Object;ZZ)Ljava/lang/Object;" } : Jvm.MethodName)) ∈ lw_all := lw_g (lw_at lw_m8 19 rfl) rfl
theorem q1811 : (Jvm.Cond.selects "java/util/HashMap" ({ cls := "java/util/HashMap", name := "putVal", desc := "(ILjava/lang/Object;Ljava/lang/Object;ZZ)Ljava/lang/Object;" } : Jvm.MethodName) ({ cls := "java/util/HashMap", name := "putVal", desc := "(ILjava/lang/Object;Ljava/lang/Object;ZZ)Ljava/lang/Object;" } : Jvm.MethodName)) ∈ lw_all := lw_g (lw_at lw_m8 20 rfl) rfl
theorem q1812 : (Jvm.Cond.code ({ cls := "java/util/HashMap", name := "putVal", desc := "(ILjava/lang/Object;Ljava/lang/Object;ZZ)Ljava/lang/Object;" } : Jvm.MethodName) prog_79_method_16_code (13 : Nat) (Option.some (Jvm.ClassFile.FieldType.object "java/lang/Object"))) ∈ lw_all := lw_g (lw_at lw_m8 21 rfl) rfl
theorem q1813 : (Jvm.Cond.methodLink "java/util/HashMap" (117 : Nat) ({ cls := "java/util/HashMap", name := "resize", desc := "()[Ljava/util/HashMap$Node;" } : Jvm.MethodName)) ∈ lw_all := lw_g (lw_at lw_m8 22 rfl) rfl
theorem q1814 : (Jvm.Cond.instanceMethod ({ cls := "java/util/HashMap", name := "resize", desc := "()[Ljava/util/HashMap$Node;" } : Jvm.MethodName)) ∈ lw_all := lw_g (lw_at lw_m8 23 rfl) rfl
theorem q1815 : (Jvm.Cond.selects "java/util/HashMap" ({ cls := "java/util/HashMap", name := "resize", desc := "()[Ljava/util/HashMap$Node;" } : Jvm.MethodName) ({ cls := "java/util/HashMap", name := "resize", desc := "()[Ljava/util/HashMap$Node;" } : Jvm.MethodName)) ∈ lw_all := lw_g (lw_at lw_m8 24 rfl) rfl
theorem q1816 : (Jvm.Cond.code ({ cls := "java/util/HashMap", name := "resize", desc := "()[Ljava/util/HashMap$Node;" } : Jvm.MethodName) prog_79_method_17_code (14 : Nat) (Option.some (Jvm.ClassFile.FieldType.array (Jvm.ClassFile.FieldType.object "java/util/HashMap$Node")))) ∈ lw_all := lw_g (lw_at lw_m8 25 rfl) rfl
theorem q1817 : (Jvm.Cond.constant "java/util/HashMap" (42 : Nat) (1073741824 : Int32)) ∈ lw_all := lw_g (lw_at lw_m8 26 rfl) rfl
theorem q1818 : (Jvm.Cond.constant "java/util/HashMap" (209 : Nat) (2147483647 : Int32)) ∈ lw_all := lw_g (lw_at lw_m8 27 rfl) rfl
theorem q1819 : (Jvm.Cond.constantFloat "java/util/HashMap" (210 : Nat) (1317011456 : UInt32)) ∈ lw_all := lw_g (lw_at lw_m8 28 rfl) rfl
theorem q1820 : (Jvm.Cond.classLink "java/util/HashMap" (163 : Nat) "java/util/HashMap$Node") ∈ lw_all := lw_g (lw_at lw_m8 29 rfl) rfl
theorem q1822 : (Jvm.Cond.methodLink "java/util/HashMap" (211 : Nat) ({ cls := "java/util/HashMap$TreeNode", name := "split", desc := "(Ljava/util/HashMap;[Ljava/util/HashMap$Node;II)V" } : Jvm.MethodName)) ∈ lw_all := lw_g (lw_at lw_m8 31 rfl) rfl
theorem q1832 : (Jvm.Cond.instanceMethod ({ cls := "java/util/HashMap", name := "replacementNode", desc := "(Ljava/util/HashMap$Node;Ljava/util/HashMap$Node;)Ljava/util/HashMap$Node;" } : Jvm.MethodName)) ∈ lw_all := lw_g (lw_at lw_m8 41 rfl) rfl
theorem q1833 : (Jvm.Cond.selects "java/util/HashMap" ({ cls := "java/util/HashMap", name := "replacementNode", desc := "(Ljava/util/HashMap$Node;Ljava/util/HashMap$Node;)Ljava/util/HashMap$Node;" } : Jvm.MethodName) ({ cls := "java/util/HashMap", name := "replacementNode", desc := "(Ljava/util/HashMap$Node;Ljava/util/HashMap$Node;)Ljava/util/HashMap$Node;" } : Jvm.MethodName)) ∈ lw_all := lw_g (lw_at lw_m8 42 rfl) rfl
theorem q1834 : (Jvm.Cond.code ({ cls := "java/util/HashMap", name := "replacementNode", desc := "(Ljava/util/HashMap$Node;Ljava/util/HashMap$Node;)Ljava/util/HashMap$Node;" } : Jvm.MethodName) prog_79_method_47_code (3 : Nat) (Option.some (Jvm.ClassFile.FieldType.object "java/util/HashMap$Node"))) ∈ lw_all := lw_g (lw_at lw_m8 43 rfl) rfl
theorem q1836 : (Jvm.Cond.methodLink "java/util/HashMap" (375 : Nat) ({ cls := "java/util/HashMap$Node", name := "<init>", desc := "(ILjava/lang/Object;Ljava/lang/Object;Ljava/util/HashMap$Node;)V" } : Jvm.MethodName)) ∈ lw_all := lw_g (lw_at lw_m8 45 rfl) rfl
theorem q1843 : (Jvm.Cond.fieldLink "java/util/HashMap" (168 : Nat) "java/util/HashMap$Node" "hash" "I") ∈ lw_all := lw_g (lw_at lw_m8 52 rfl) rfl
theorem q1847 : (Jvm.Cond.fieldLink "java/util/HashMap" (170 : Nat) "java/util/HashMap$Node" "key" "Ljava/lang/Object;") ∈ lw_all := lw_g (lw_at lw_m8 56 rfl) rfl
theorem q1849 : (Jvm.Cond.fieldLink "java/util/HashMap" (162 : Nat) "java/util/HashMap$Node" "value" "Ljava/lang/Object;") ∈ lw_all := lw_g (lw_at lw_m8 58 rfl) rfl
theorem q1854 : (Jvm.Cond.fieldLink "java/util/HashMap" (177 : Nat) "java/util/HashMap$Node" "next" "Ljava/util/HashMap$Node;") ∈ lw_all := lw_g (lw_at lw_m8 63 rfl) rfl
theorem q1855 : (Jvm.Cond.fieldLink "java/util/HashMap" (223 : Nat) "java/util/HashMap$TreeNode" "next" "Ljava/util/HashMap$Node;") ∈ lw_all := lw_g (lw_at lw_m8 64 rfl) rfl
theorem q1883 : (Jvm.Cond.methodLink "java/util/HashMap" (186 : Nat) ({ cls := "java/util/HashMap", name := "newNode", desc := "(ILjava/lang/Object;Ljava/lang/Object;Ljava/util/HashMap$Node;)Ljava/util/HashMap$Node;" } : Jvm.MethodName)) ∈ lw_all := lw_g (lw_at lw_m8 92 rfl) rfl
theorem q1884 : (Jvm.Cond.instanceMethod ({ cls := "java/util/HashMap", name := "newNode", desc := "(ILjava/lang/Object;Ljava/lang/Object;Ljava/util/HashMap$Node;)Ljava/util/HashMap$Node;" } : Jvm.MethodName)) ∈ lw_all := lw_g (lw_at lw_m8 93 rfl) rfl
theorem q1885 : (Jvm.Cond.selects "java/util/HashMap" ({ cls := "java/util/HashMap", name := "newNode", desc := "(ILjava/lang/Object;Ljava/lang/Object;Ljava/util/HashMap$Node;)Ljava/util/HashMap$Node;" } : Jvm.MethodName) ({ cls := "java/util/HashMap", name := "newNode", desc := "(ILjava/lang/Object;Ljava/lang/Object;Ljava/util/HashMap$Node;)Ljava/util/HashMap$Node;" } : Jvm.MethodName)) ∈ lw_all := lw_g (lw_at lw_m8 94 rfl) rfl
theorem q1886 : (Jvm.Cond.code ({ cls := "java/util/HashMap", name := "newNode", desc := "(ILjava/lang/Object;Ljava/lang/Object;Ljava/util/HashMap$Node;)Ljava/util/HashMap$Node;" } : Jvm.MethodName) prog_79_method_46_code (5 : Nat) (Option.some (Jvm.ClassFile.FieldType.object "java/util/HashMap$Node"))) ∈ lw_all := lw_g (lw_at lw_m8 95 rfl) rfl
theorem q1887 : (Jvm.Cond.methodLink "java/util/HashMap" (190 : Nat) ({ cls := "java/util/HashMap$TreeNode", name := "putTreeVal", desc := "(Ljava/util/HashMap;[Ljava/util/HashMap$Node;ILjava/lang/Object;Ljava/lang/Object;)Ljava/util/HashMap$TreeNode;" } : Jvm.MethodName)) ∈ lw_all := lw_g (lw_at lw_m8 96 rfl) rfl
theorem q1892 : (Jvm.Cond.instanceMethod ({ cls := "java/util/HashMap", name := "newTreeNode", desc := "(ILjava/lang/Object;Ljava/lang/Object;Ljava/util/HashMap$Node;)Ljava/util/HashMap$TreeNode;" } : Jvm.MethodName)) ∈ lw_all := lw_g (lw_at lw_m8 101 rfl) rfl
theorem q1893 : (Jvm.Cond.selects "java/util/HashMap" ({ cls := "java/util/HashMap", name := "newTreeNode", desc := "(ILjava/lang/Object;Ljava/lang/Object;Ljava/util/HashMap$Node;)Ljava/util/HashMap$TreeNode;" } : Jvm.MethodName) ({ cls := "java/util/HashMap", name := "newTreeNode", desc := "(ILjava/lang/Object;Ljava/lang/Object;Ljava/util/HashMap$Node;)Ljava/util/HashMap$TreeNode;" } : Jvm.MethodName)) ∈ lw_all := lw_g (lw_at lw_m8 102 rfl) rfl
theorem q1894 : (Jvm.Cond.code ({ cls := "java/util/HashMap", name := "newTreeNode", desc := "(ILjava/lang/Object;Ljava/lang/Object;Ljava/util/HashMap$Node;)Ljava/util/HashMap$TreeNode;" } : Jvm.MethodName) prog_79_method_48_code (5 : Nat) (Option.some (Jvm.ClassFile.FieldType.object "java/util/HashMap$TreeNode"))) ∈ lw_all := lw_g (lw_at lw_m8 103 rfl) rfl
theorem q1896 : (Jvm.Cond.methodLink "java/util/HashMap" (378 : Nat) ({ cls := "java/util/HashMap$TreeNode", name := "<init>", desc := "(ILjava/lang/Object;Ljava/lang/Object;Ljava/util/HashMap$Node;)V" } : Jvm.MethodName)) ∈ lw_all := lw_g (lw_at lw_m8 105 rfl) rfl
theorem q1907 : (Jvm.Cond.fieldLink "java/util/HashMap" (219 : Nat) "java/util/HashMap$TreeNode" "prev" "Ljava/util/HashMap$TreeNode;") ∈ lw_all := lw_g (lw_at lw_m8 116 rfl) rfl
theorem q1928 : (Jvm.Cond.methodLink "java/util/HashMap" (194 : Nat) ({ cls := "java/util/HashMap", name := "treeifyBin", desc := "([Ljava/util/HashMap$Node;I)V" } : Jvm.MethodName)) ∈ lw_all := lw_g (lw_at lw_m8 137 rfl) rfl
theorem q1929 : (Jvm.Cond.instanceMethod ({ cls := "java/util/HashMap", name := "treeifyBin", desc := "([Ljava/util/HashMap$Node;I)V" } : Jvm.MethodName)) ∈ lw_all := lw_g (lw_at lw_m8 138 rfl) rfl
theorem q1930 : (Jvm.Cond.selects "java/util/HashMap" ({ cls := "java/util/HashMap", name := "treeifyBin", desc := "([Ljava/util/HashMap$Node;I)V" } : Jvm.MethodName) ({ cls := "java/util/HashMap", name := "treeifyBin", desc := "([Ljava/util/HashMap$Node;I)V" } : Jvm.MethodName)) ∈ lw_all := lw_g (lw_at lw_m8 139 rfl) rfl
theorem q1931 : (Jvm.Cond.code ({ cls := "java/util/HashMap", name := "treeifyBin", desc := "([Ljava/util/HashMap$Node;I)V" } : Jvm.MethodName) prog_79_method_18_code (9 : Nat) (Option.none : Option Jvm.ClassFile.FieldType)) ∈ lw_all := lw_g (lw_at lw_m8 140 rfl) rfl
theorem q1932 : (Jvm.Cond.methodLink "java/util/HashMap" (215 : Nat) ({ cls := "java/util/HashMap", name := "replacementTreeNode", desc := "(Ljava/util/HashMap$Node;Ljava/util/HashMap$Node;)Ljava/util/HashMap$TreeNode;" } : Jvm.MethodName)) ∈ lw_all := lw_g (lw_at lw_m8 141 rfl) rfl
theorem q1933 : (Jvm.Cond.instanceMethod ({ cls := "java/util/HashMap", name := "replacementTreeNode", desc := "(Ljava/util/HashMap$Node;Ljava/util/HashMap$Node;)Ljava/util/HashMap$TreeNode;" } : Jvm.MethodName)) ∈ lw_all := lw_g (lw_at lw_m8 142 rfl) rfl
theorem q1934 : (Jvm.Cond.selects "java/util/HashMap" ({ cls := "java/util/HashMap", name := "replacementTreeNode", desc := "(Ljava/util/HashMap$Node;Ljava/util/HashMap$Node;)Ljava/util/HashMap$TreeNode;" } : Jvm.MethodName) ({ cls := "java/util/HashMap", name := "replacementTreeNode", desc := "(Ljava/util/HashMap$Node;Ljava/util/HashMap$Node;)Ljava/util/HashMap$TreeNode;" } : Jvm.MethodName)) ∈ lw_all := lw_g (lw_at lw_m8 143 rfl) rfl
theorem q1935 : (Jvm.Cond.code ({ cls := "java/util/HashMap", name := "replacementTreeNode", desc := "(Ljava/util/HashMap$Node;Ljava/util/HashMap$Node;)Ljava/util/HashMap$TreeNode;" } : Jvm.MethodName) prog_79_method_49_code (3 : Nat) (Option.some (Jvm.ClassFile.FieldType.object "java/util/HashMap$TreeNode"))) ∈ lw_all := lw_g (lw_at lw_m8 144 rfl) rfl
theorem q1936 : (Jvm.Cond.methodLink "java/util/HashMap" (224 : Nat) ({ cls := "java/util/HashMap$TreeNode", name := "treeify", desc := "([Ljava/util/HashMap$Node;)V" } : Jvm.MethodName)) ∈ lw_all := lw_g (lw_at lw_m8 145 rfl) rfl
theorem q1937 : (Jvm.Cond.methodLink "java/util/HashMap" (198 : Nat) ({ cls := "java/util/HashMap", name := "afterNodeAccess", desc := "(Ljava/util/HashMap$Node;)V" } : Jvm.MethodName)) ∈ lw_all := lw_g (lw_at lw_m8 146 rfl) rfl
theorem q1938 : (Jvm.Cond.instanceMethod ({ cls := "java/util/HashMap", name := "afterNodeAccess", desc := "(Ljava/util/HashMap$Node;)V" } : Jvm.MethodName)) ∈ lw_all := lw_g (lw_at lw_m8 147 rfl) rfl
theorem q1939 : (Jvm.Cond.selects "java/util/HashMap" ({ cls := "java/util/HashMap", name := "afterNodeAccess", desc := "(Ljava/util/HashMap$Node;)V" } : Jvm.MethodName) ({ cls := "java/util/HashMap", name := "afterNodeAccess", desc := "(Ljava/util/HashMap$Node;)V" } : Jvm.MethodName)) ∈ lw_all := lw_g (lw_at lw_m8 148 rfl) rfl
theorem q1940 : (Jvm.Cond.code ({ cls := "java/util/HashMap", name := "afterNodeAccess", desc := "(Ljava/util/HashMap$Node;)V" } : Jvm.MethodName) prog_79_method_51_code (2 : Nat) (Option.none : Option Jvm.ClassFile.FieldType)) ∈ lw_all := lw_g (lw_at lw_m8 149 rfl) rfl
theorem q1941 : (Jvm.Cond.methodLink "java/util/HashMap" (205 : Nat) ({ cls := "java/util/HashMap", name := "afterNodeInsertion", desc := "(Z)V" } : Jvm.MethodName)) ∈ lw_all := lw_g (lw_at lw_m8 150 rfl) rfl
theorem q1942 : (Jvm.Cond.instanceMethod ({ cls := "java/util/HashMap", name := "afterNodeInsertion", desc := "(Z)V" } : Jvm.MethodName)) ∈ lw_all := lw_g (lw_at lw_m8 151 rfl) rfl
theorem q1943 : (Jvm.Cond.selects "java/util/HashMap" ({ cls := "java/util/HashMap", name := "afterNodeInsertion", desc := "(Z)V" } : Jvm.MethodName) ({ cls := "java/util/HashMap", name := "afterNodeInsertion", desc := "(Z)V" } : Jvm.MethodName)) ∈ lw_all := lw_g (lw_at lw_m8 152 rfl) rfl
theorem q1944 : (Jvm.Cond.code ({ cls := "java/util/HashMap", name := "afterNodeInsertion", desc := "(Z)V" } : Jvm.MethodName) prog_79_method_52_code (2 : Nat) (Option.none : Option Jvm.ClassFile.FieldType)) ∈ lw_all := lw_g (lw_at lw_m8 153 rfl) rfl
theorem q3342 : (Jvm.Cond.castable "java/util/HashMap" "java/lang/Object") ∈ lw_tbl := lw_at lw_m14 111 rfl
theorem in_J22 : ∀ w ∈ wsJ220, w ∈ lw_all := lw_in wsJ220 [898, 900, 886, 888, 890, 892, 894, 896] (by decide +kernel) (by decide +kernel)

/-! java/util/Objects -/
set_option maxRecDepth 100000
def RJ23 : String := "java/util/Objects"
abbrev cJ23_checkIndex : ByteArray := prog_87_method_17_code
def yJ23_checkIndex : MethodName := ⟨RJ23, "checkIndex", "(II)I"⟩
def dkwJ23_checkIndex_0 : List UInt8 := [26, 27, 1, 184, 0, 105, 172]
abbrev dktJ23_checkIndex_0 : List UInt8 := dkwJ23_checkIndex_0 ++ []
theorem dksJ23_checkIndex_0 : cJ23_checkIndex.data.toList.drop 0 = dktJ23_checkIndex_0 := by decide +kernel
theorem dJ23_checkIndex_0 : decode cJ23_checkIndex 0 = .ok (.iload_n 0, 1) := dk_26 (dk_at dksJ23_checkIndex_0 0 rfl rfl)
theorem dJ23_checkIndex_1 : decode cJ23_checkIndex 1 = .ok (.iload_n 1, 1) := dk_27 (dk_at dksJ23_checkIndex_0 1 rfl rfl)
theorem dJ23_checkIndex_2 : decode cJ23_checkIndex 2 = .ok (.aconst_null, 1) := dk_1 (dk_at dksJ23_checkIndex_0 2 rfl rfl)
theorem dJ23_checkIndex_3 : decode cJ23_checkIndex 3 = .ok (.invokestatic 105, 3) := dk_184 0 105 (dk_at dksJ23_checkIndex_0 3 rfl rfl)
theorem dJ23_checkIndex_6 : decode cJ23_checkIndex 6 = .ok (.ireturn, 1) := dk_172 (dk_at dksJ23_checkIndex_0 6 rfl rfl)
abbrev cJ23_requireNonNull : ByteArray := prog_87_method_10_code
def yJ23_requireNonNull : MethodName := ⟨RJ23, "requireNonNull", "(Ljava/lang/Object;)Ljava/lang/Object;"⟩
def dkwJ23_requireNonNull_0 : List UInt8 := [42, 199, 0, 11, 187, 0, 84, 89, 183, 0, 86, 191, 42, 176]
abbrev dktJ23_requireNonNull_0 : List UInt8 := dkwJ23_requireNonNull_0 ++ []
theorem dksJ23_requireNonNull_0 : cJ23_requireNonNull.data.toList.drop 0 = dktJ23_requireNonNull_0 := by decide +kernel
theorem dJ23_requireNonNull_0 : decode cJ23_requireNonNull 0 = .ok (.aload_n 0, 1) := dk_42 (dk_at dksJ23_requireNonNull_0 0 rfl rfl)
theorem dJ23_requireNonNull_1 : decode cJ23_requireNonNull 1 = .ok (.ifnonnull 11, 3) := dk_199 0 11 (dk_at dksJ23_requireNonNull_0 1 rfl rfl)
theorem dJ23_requireNonNull_4 : decode cJ23_requireNonNull 4 = .ok (.new 84, 3) := dk_187 0 84 (dk_at dksJ23_requireNonNull_0 4 rfl rfl)
theorem dJ23_requireNonNull_7 : decode cJ23_requireNonNull 7 = .ok (.dup, 1) := dk_89 (dk_at dksJ23_requireNonNull_0 7 rfl rfl)
theorem dJ23_requireNonNull_8 : decode cJ23_requireNonNull 8 = .ok (.invokespecial 86, 3) := dk_183 0 86 (dk_at dksJ23_requireNonNull_0 8 rfl rfl)
theorem dJ23_requireNonNull_11 : decode cJ23_requireNonNull 11 = .ok (.athrow, 1) := dk_191 (dk_at dksJ23_requireNonNull_0 11 rfl rfl)
theorem dJ23_requireNonNull_12 : decode cJ23_requireNonNull 12 = .ok (.aload_n 0, 1) := dk_42 (dk_at dksJ23_requireNonNull_0 12 rfl rfl)
theorem dJ23_requireNonNull_13 : decode cJ23_requireNonNull 13 = .ok (.areturn, 1) := dk_176 (dk_at dksJ23_requireNonNull_0 13 rfl rfl)
theorem q146 : (Jvm.Cond.initialized "java/util/Objects") ∈ lw_all := lw_g (lw_at lw_m1 35 rfl) rfl
theorem q948 : (Jvm.Cond.static ({ cls := "java/util/Objects", name := "checkIndex", desc := "(II)I" } : Jvm.MethodName)) ∈ lw_all := lw_g (lw_at lw_m4 117 rfl) rfl
theorem q949 : (Jvm.Cond.code ({ cls := "java/util/Objects", name := "checkIndex", desc := "(II)I" } : Jvm.MethodName) prog_87_method_17_code (2 : Nat) (Option.some Jvm.ClassFile.FieldType.int)) ∈ lw_all := lw_g (lw_at lw_m4 118 rfl) rfl
theorem q950 : (Jvm.Cond.methodLink "java/util/Objects" (105 : Nat) ({ cls := "jdk/internal/util/Preconditions", name := "checkIndex", desc := "(IILjava/util/function/BiFunction;)I" } : Jvm.MethodName)) ∈ lw_all := lw_g (lw_at lw_m4 119 rfl) rfl
theorem q1992 : (Jvm.Cond.static ({ cls := "java/util/Objects", name := "requireNonNull", desc := "(Ljava/lang/Object;)Ljava/lang/Object;" } : Jvm.MethodName)) ∈ lw_all := lw_g (lw_at lw_m8 201 rfl) rfl
theorem q1993 : (Jvm.Cond.code ({ cls := "java/util/Objects", name := "requireNonNull", desc := "(Ljava/lang/Object;)Ljava/lang/Object;" } : Jvm.MethodName) prog_87_method_10_code (1 : Nat) (Option.some (Jvm.ClassFile.FieldType.object "java/lang/Object"))) ∈ lw_all := lw_g (lw_at lw_m8 202 rfl) rfl

/-! GridTable$Fault -/
set_option maxRecDepth 100000
def RX10 : String := "GridTable$Fault"
def TX10 : u_T := fun k => match k with
  | 0 => ("java/lang/Throwable", "cause", "Ljava/lang/Throwable;", false)
  | 1 => ("java/lang/Throwable", "stackTrace", "[Ljava/lang/StackTraceElement;", false)
  | 2 => ("java/lang/Throwable", "suppressedExceptions", "Ljava/util/List;", false)
  | 3 => ("java/lang/Throwable", "detailMessage", "Ljava/lang/String;", false)
  | 4 => ("java/lang/Throwable", "backtrace", "Ljava/lang/Object;", false)
  | 5 => ("java/lang/Throwable", "depth", "I", false)
  | 6 => ("GridTable$Fault", "error", "I", true)
  | _ => ("GridTable$Fault", "at", "I", true)
def tyX10 : Nat → FieldType := fun k => match k with
  | 0 => .object "java/lang/Throwable"
  | 1 => .array (.object "java/lang/StackTraceElement")
  | 2 => .object "java/util/List"
  | 3 => .object "java/lang/String"
  | 4 => .object "java/lang/Object"
  | 5 => .int
  | 6 => .int
  | _ => .int
abbrev wsX100 : List Cond := u_ws RX10 TX10 8
theorem nmX10 : ∀ a, a < 8 → ∀ b, b < 8 → a ≠ b → (TX10 a).2.1 ≠ (TX10 b).2.1 := by decide +kernel
theorem tyX10_ok : ∀ k, k < 8 → parseFieldDescriptor (TX10 k).2.2.1 = some (tyX10 k) := by decide +kernel
abbrev cX10_init : ByteArray := prog_10_method_1_code
def yX10_init : MethodName := ⟨RX10, "<init>", "(II)V"⟩
def dkwX10_init_0 : List UInt8 := [42, 183, 0, 1, 42, 27, 181, 0, 7, 42, 28, 181, 0, 13, 177]
abbrev dktX10_init_0 : List UInt8 := dkwX10_init_0 ++ []
theorem dksX10_init_0 : cX10_init.data.toList.drop 0 = dktX10_init_0 := by decide +kernel
theorem dX10_init_0 : decode cX10_init 0 = .ok (.aload_n 0, 1) := dk_42 (dk_at dksX10_init_0 0 rfl rfl)
theorem dX10_init_1 : decode cX10_init 1 = .ok (.invokespecial 1, 3) := dk_183 0 1 (dk_at dksX10_init_0 1 rfl rfl)
theorem dX10_init_4 : decode cX10_init 4 = .ok (.aload_n 0, 1) := dk_42 (dk_at dksX10_init_0 4 rfl rfl)
theorem dX10_init_5 : decode cX10_init 5 = .ok (.iload_n 1, 1) := dk_27 (dk_at dksX10_init_0 5 rfl rfl)
theorem dX10_init_6 : decode cX10_init 6 = .ok (.putfield 7, 3) := dk_181 0 7 (dk_at dksX10_init_0 6 rfl rfl)
theorem dX10_init_9 : decode cX10_init 9 = .ok (.aload_n 0, 1) := dk_42 (dk_at dksX10_init_0 9 rfl rfl)
theorem dX10_init_10 : decode cX10_init 10 = .ok (.iload_n 2, 1) := dk_28 (dk_at dksX10_init_0 10 rfl rfl)
theorem dX10_init_11 : decode cX10_init 11 = .ok (.putfield 13, 3) := dk_181 0 13 (dk_at dksX10_init_0 11 rfl rfl)
theorem dX10_init_14 : decode cX10_init 14 = .ok (.return_, 1) := dk_177 (dk_at dksX10_init_0 14 rfl rfl)
theorem q147 : (Jvm.Cond.initialized "GridTable$Fault") ∈ lw_all := lw_g (lw_at lw_m1 36 rfl) rfl
theorem q570 : (Jvm.Cond.selects "GridTable$Fault" ({ cls := "java/lang/Throwable", name := "fillInStackTrace", desc := "()Ljava/lang/Throwable;" } : Jvm.MethodName) ({ cls := "java/lang/Throwable", name := "fillInStackTrace", desc := "()Ljava/lang/Throwable;" } : Jvm.MethodName)) ∈ lw_all := lw_g (lw_at lw_m2 219 rfl) rfl
theorem q811 : (Jvm.Cond.selects "GridTable$Fault" ({ cls := "java/lang/Object", name := "getClass", desc := "()Ljava/lang/Class;" } : Jvm.MethodName) ({ cls := "java/lang/Object", name := "getClass", desc := "()Ljava/lang/Class;" } : Jvm.MethodName)) ∈ lw_all := lw_g (lw_at lw_m3 220 rfl) rfl
theorem q987 : (Jvm.Cond.instantiable "GridTable$Fault" (8 : Nat)) ∈ lw_all := lw_g (lw_at lw_m4 156 rfl) rfl
theorem q988 : (Jvm.Cond.castable "GridTable$Fault" "GridTable$Fault") ∈ lw_tbl := lw_at lw_m4 157 rfl
theorem q989 : (Jvm.Cond.selects "GridTable$Fault" ({ cls := "java/lang/Throwable", name := "fillInStackTrace", desc := "(I)Ljava/lang/Throwable;" } : Jvm.MethodName) ({ cls := "java/lang/Throwable", name := "fillInStackTrace", desc := "(I)Ljava/lang/Throwable;" } : Jvm.MethodName)) ∈ lw_all := lw_g (lw_at lw_m4 158 rfl) rfl
theorem q990 : (Jvm.Cond.lays "GridTable$Fault" "java/lang/Throwable" "cause" "Ljava/lang/Throwable;") ∈ lw_all := lw_g (lw_at lw_m4 159 rfl) rfl
theorem q991 : (Jvm.Cond.lays "GridTable$Fault" "java/lang/Throwable" "stackTrace" "[Ljava/lang/StackTraceElement;") ∈ lw_all := lw_g (lw_at lw_m4 160 rfl) rfl
theorem q992 : (Jvm.Cond.lays "GridTable$Fault" "java/lang/Throwable" "suppressedExceptions" "Ljava/util/List;") ∈ lw_all := lw_g (lw_at lw_m4 161 rfl) rfl
theorem q993 : (Jvm.Cond.lays "GridTable$Fault" "java/lang/Throwable" "detailMessage" "Ljava/lang/String;") ∈ lw_all := lw_g (lw_at lw_m4 162 rfl) rfl
theorem q994 : (Jvm.Cond.lays "GridTable$Fault" "java/lang/Throwable" "backtrace" "Ljava/lang/Object;") ∈ lw_all := lw_g (lw_at lw_m4 163 rfl) rfl
theorem q996 : (Jvm.Cond.instanceMethod ({ cls := "GridTable$Fault", name := "<init>", desc := "(II)V" } : Jvm.MethodName)) ∈ lw_all := lw_g (lw_at lw_m4 165 rfl) rfl
theorem q997 : (Jvm.Cond.code ({ cls := "GridTable$Fault", name := "<init>", desc := "(II)V" } : Jvm.MethodName) prog_10_method_1_code (3 : Nat) (Option.none : Option Jvm.ClassFile.FieldType)) ∈ lw_all := lw_g (lw_at lw_m4 166 rfl) rfl
theorem q998 : (Jvm.Cond.methodLink "GridTable$Fault" (1 : Nat) ({ cls := "java/lang/Exception", name := "<init>", desc := "()V" } : Jvm.MethodName)) ∈ lw_all := lw_g (lw_at lw_m4 167 rfl) rfl
theorem q1002 : (Jvm.Cond.fieldLink "GridTable$Fault" (7 : Nat) "GridTable$Fault" "error" "I") ∈ lw_all := lw_g (lw_at lw_m4 171 rfl) rfl
theorem q1004 : (Jvm.Cond.fieldLink "GridTable$Fault" (13 : Nat) "GridTable$Fault" "at" "I") ∈ lw_all := lw_g (lw_at lw_m4 173 rfl) rfl
theorem q1006 : (Jvm.Cond.laysFinal "GridTable$Fault" "GridTable$Fault" "error" "I") ∈ lw_all := lw_g (lw_at lw_m4 175 rfl) rfl
theorem q1007 : (Jvm.Cond.soleField "GridTable$Fault" "error") ∈ lw_all := lw_g (lw_at lw_m4 176 rfl) rfl
theorem q1008 : (Jvm.Cond.laysFinal "GridTable$Fault" "GridTable$Fault" "at" "I") ∈ lw_all := lw_g (lw_at lw_m4 177 rfl) rfl
theorem q1009 : (Jvm.Cond.soleField "GridTable$Fault" "at") ∈ lw_all := lw_g (lw_at lw_m4 178 rfl) rfl
theorem q1010 : (Jvm.Cond.lays "GridTable$Fault" "java/lang/Throwable" "depth" "I") ∈ lw_all := lw_g (lw_at lw_m4 179 rfl) rfl
theorem q1011 : (Jvm.Cond.superclass "GridTable$Fault" "java/lang/Exception") ∈ lw_all := lw_g (lw_at lw_m4 180 rfl) rfl
theorem q1040 : (Jvm.Cond.selects "GridTable$Fault" ({ cls := "java/lang/Object", name := "hashCode", desc := "()I" } : Jvm.MethodName) ({ cls := "java/lang/Object", name := "hashCode", desc := "()I" } : Jvm.MethodName)) ∈ lw_all := lw_g (lw_at lw_m4 209 rfl) rfl
theorem q1152 : (Jvm.Cond.selects "GridTable$Fault" ({ cls := "java/lang/Object", name := "equals", desc := "(Ljava/lang/Object;)Z" } : Jvm.MethodName) ({ cls := "java/lang/Object", name := "equals", desc := "(Ljava/lang/Object;)Z" } : Jvm.MethodName)) ∈ lw_all := lw_g (lw_at lw_m5 81 rfl) rfl
theorem q3343 : (Jvm.Cond.castable "GridTable$Fault" "java/lang/Object") ∈ lw_tbl := lw_at lw_m14 112 rfl
theorem in_X10 : ∀ w ∈ wsX100, w ∈ lw_all := lw_in wsX100 [990, 991, 992, 993, 994, 1010, 1006, 1008] (by decide +kernel) (by decide +kernel)

/-! jdk/internal/misc/Unsafe -/
set_option maxRecDepth 100000
def RJ24 : String := "jdk/internal/misc/Unsafe"
abbrev cJ24_getLongUnaligned : ByteArray := prog_92_method_334_code
def yJ24_getLongUnaligned : MethodName := ⟨RJ24, "getLongUnaligned", "(Ljava/lang/Object;J)J"⟩
def dkwJ24_getLongUnaligned_7 : List UInt8 := [182, 0, 39, 184, 2, 197, 173]
abbrev dktJ24_getLongUnaligned_7 : List UInt8 := dkwJ24_getLongUnaligned_7 ++ []
def dkwJ24_getLongUnaligned_6 : List UInt8 := [20, 2, 195, 97, 182, 0, 39, 42, 43, 32, 20, 2, 190, 97, 182, 0, 39, 42, 43, 32, 20, 2, 184, 97]
abbrev dktJ24_getLongUnaligned_6 : List UInt8 := dkwJ24_getLongUnaligned_6 ++ dktJ24_getLongUnaligned_7
def dkwJ24_getLongUnaligned_5 : List UInt8 := [43, 32, 20, 1, 93, 97, 182, 0, 39, 42, 43, 32, 20, 0, 205, 97, 182, 0, 39, 42, 43, 32]
abbrev dktJ24_getLongUnaligned_5 : List UInt8 := dkwJ24_getLongUnaligned_5 ++ dktJ24_getLongUnaligned_6
def dkwJ24_getLongUnaligned_4 : List UInt8 := [43, 32, 182, 0, 39, 42, 43, 32, 10, 97, 182, 0, 39, 42, 43, 32, 20, 0, 203, 97, 182, 0, 39, 42]
abbrev dktJ24_getLongUnaligned_4 : List UInt8 := dkwJ24_getLongUnaligned_4 ++ dktJ24_getLongUnaligned_5
def dkwJ24_getLongUnaligned_3 : List UInt8 := [43, 32, 20, 0, 205, 97, 182, 0, 47, 42, 43, 32, 20, 2, 190, 97, 182, 0, 47, 184, 2, 192, 173, 42]
abbrev dktJ24_getLongUnaligned_3 : List UInt8 := dkwJ24_getLongUnaligned_3 ++ dktJ24_getLongUnaligned_4
def dkwJ24_getLongUnaligned_2 : List UInt8 := [10, 127, 9, 148, 154, 0, 43, 42, 43, 32, 182, 0, 47, 42, 43, 32, 20, 0, 203, 97, 182, 0, 47, 42]
abbrev dktJ24_getLongUnaligned_2 : List UInt8 := dkwJ24_getLongUnaligned_2 ++ dktJ24_getLongUnaligned_3
def dkwJ24_getLongUnaligned_1 : List UInt8 := [154, 0, 23, 42, 43, 32, 182, 0, 17, 42, 43, 32, 20, 0, 205, 97, 182, 0, 17, 184, 2, 186, 173, 32]
abbrev dktJ24_getLongUnaligned_1 : List UInt8 := dkwJ24_getLongUnaligned_1 ++ dktJ24_getLongUnaligned_2
def dkwJ24_getLongUnaligned_0 : List UInt8 := [32, 20, 2, 184, 127, 9, 148, 154, 0, 10, 42, 43, 32, 182, 0, 27, 173, 32, 20, 1, 93, 127, 9, 148]
abbrev dktJ24_getLongUnaligned_0 : List UInt8 := dkwJ24_getLongUnaligned_0 ++ dktJ24_getLongUnaligned_1
theorem dksJ24_getLongUnaligned_0 : cJ24_getLongUnaligned.data.toList.drop 0 = dktJ24_getLongUnaligned_0 := by decide +kernel
theorem dksJ24_getLongUnaligned_1 : cJ24_getLongUnaligned.data.toList.drop 24 = dktJ24_getLongUnaligned_1 := dk_seg dksJ24_getLongUnaligned_0 24 rfl rfl
theorem dksJ24_getLongUnaligned_2 : cJ24_getLongUnaligned.data.toList.drop 48 = dktJ24_getLongUnaligned_2 := dk_seg dksJ24_getLongUnaligned_1 24 rfl rfl
theorem dksJ24_getLongUnaligned_3 : cJ24_getLongUnaligned.data.toList.drop 72 = dktJ24_getLongUnaligned_3 := dk_seg dksJ24_getLongUnaligned_2 24 rfl rfl
theorem dksJ24_getLongUnaligned_4 : cJ24_getLongUnaligned.data.toList.drop 96 = dktJ24_getLongUnaligned_4 := dk_seg dksJ24_getLongUnaligned_3 24 rfl rfl
theorem dksJ24_getLongUnaligned_5 : cJ24_getLongUnaligned.data.toList.drop 120 = dktJ24_getLongUnaligned_5 := dk_seg dksJ24_getLongUnaligned_4 24 rfl rfl
theorem dksJ24_getLongUnaligned_6 : cJ24_getLongUnaligned.data.toList.drop 142 = dktJ24_getLongUnaligned_6 := dk_seg dksJ24_getLongUnaligned_5 22 rfl rfl
theorem dksJ24_getLongUnaligned_7 : cJ24_getLongUnaligned.data.toList.drop 166 = dktJ24_getLongUnaligned_7 := dk_seg dksJ24_getLongUnaligned_6 24 rfl rfl
theorem dJ24_getLongUnaligned_0 : decode cJ24_getLongUnaligned 0 = .ok (.lload_n 2, 1) := dk_32 (dk_at dksJ24_getLongUnaligned_0 0 rfl rfl)
theorem dJ24_getLongUnaligned_1 : decode cJ24_getLongUnaligned 1 = .ok (.ldc2_w 696, 3) := dk_20 2 184 (dk_at dksJ24_getLongUnaligned_0 1 rfl rfl)
theorem dJ24_getLongUnaligned_4 : decode cJ24_getLongUnaligned 4 = .ok (.land, 1) := dk_127 (dk_at dksJ24_getLongUnaligned_0 4 rfl rfl)
theorem dJ24_getLongUnaligned_5 : decode cJ24_getLongUnaligned 5 = .ok (.lconst 0, 1) := dk_9 (dk_at dksJ24_getLongUnaligned_0 5 rfl rfl)
theorem dJ24_getLongUnaligned_6 : decode cJ24_getLongUnaligned 6 = .ok (.lcmp, 1) := dk_148 (dk_at dksJ24_getLongUnaligned_0 6 rfl rfl)
theorem dJ24_getLongUnaligned_7 : decode cJ24_getLongUnaligned 7 = .ok (.ifCond .ne 10, 3) := dk_154 0 10 (dk_at dksJ24_getLongUnaligned_0 7 rfl rfl)
theorem dJ24_getLongUnaligned_10 : decode cJ24_getLongUnaligned 10 = .ok (.aload_n 0, 1) := dk_42 (dk_at dksJ24_getLongUnaligned_0 10 rfl rfl)
theorem dJ24_getLongUnaligned_11 : decode cJ24_getLongUnaligned 11 = .ok (.aload_n 1, 1) := dk_43 (dk_at dksJ24_getLongUnaligned_0 11 rfl rfl)
theorem dJ24_getLongUnaligned_12 : decode cJ24_getLongUnaligned 12 = .ok (.lload_n 2, 1) := dk_32 (dk_at dksJ24_getLongUnaligned_0 12 rfl rfl)
theorem dJ24_getLongUnaligned_13 : decode cJ24_getLongUnaligned 13 = .ok (.invokevirtual 27, 3) := dk_182 0 27 (dk_at dksJ24_getLongUnaligned_0 13 rfl rfl)
theorem dJ24_getLongUnaligned_16 : decode cJ24_getLongUnaligned 16 = .ok (.lreturn, 1) := dk_173 (dk_at dksJ24_getLongUnaligned_0 16 rfl rfl)
theorem dJ24_getLongUnaligned_17 : decode cJ24_getLongUnaligned 17 = .ok (.lload_n 2, 1) := dk_32 (dk_at dksJ24_getLongUnaligned_0 17 rfl rfl)
theorem dJ24_getLongUnaligned_18 : decode cJ24_getLongUnaligned 18 = .ok (.ldc2_w 349, 3) := dk_20 1 93 (dk_at dksJ24_getLongUnaligned_0 18 rfl rfl)
theorem dJ24_getLongUnaligned_21 : decode cJ24_getLongUnaligned 21 = .ok (.land, 1) := dk_127 (dk_at dksJ24_getLongUnaligned_0 21 rfl rfl)
theorem dJ24_getLongUnaligned_22 : decode cJ24_getLongUnaligned 22 = .ok (.lconst 0, 1) := dk_9 (dk_at dksJ24_getLongUnaligned_0 22 rfl rfl)
theorem dJ24_getLongUnaligned_23 : decode cJ24_getLongUnaligned 23 = .ok (.lcmp, 1) := dk_148 (dk_at dksJ24_getLongUnaligned_0 23 rfl rfl)
theorem dJ24_getLongUnaligned_24 : decode cJ24_getLongUnaligned 24 = .ok (.ifCond .ne 23, 3) := dk_154 0 23 (dk_at dksJ24_getLongUnaligned_1 0 rfl rfl)
theorem dJ24_getLongUnaligned_27 : decode cJ24_getLongUnaligned 27 = .ok (.aload_n 0, 1) := dk_42 (dk_at dksJ24_getLongUnaligned_1 3 rfl rfl)
theorem dJ24_getLongUnaligned_28 : decode cJ24_getLongUnaligned 28 = .ok (.aload_n 1, 1) := dk_43 (dk_at dksJ24_getLongUnaligned_1 4 rfl rfl)
theorem dJ24_getLongUnaligned_29 : decode cJ24_getLongUnaligned 29 = .ok (.lload_n 2, 1) := dk_32 (dk_at dksJ24_getLongUnaligned_1 5 rfl rfl)
theorem dJ24_getLongUnaligned_30 : decode cJ24_getLongUnaligned 30 = .ok (.invokevirtual 17, 3) := dk_182 0 17 (dk_at dksJ24_getLongUnaligned_1 6 rfl rfl)
theorem dJ24_getLongUnaligned_33 : decode cJ24_getLongUnaligned 33 = .ok (.aload_n 0, 1) := dk_42 (dk_at dksJ24_getLongUnaligned_1 9 rfl rfl)
theorem dJ24_getLongUnaligned_34 : decode cJ24_getLongUnaligned 34 = .ok (.aload_n 1, 1) := dk_43 (dk_at dksJ24_getLongUnaligned_1 10 rfl rfl)
theorem dJ24_getLongUnaligned_35 : decode cJ24_getLongUnaligned 35 = .ok (.lload_n 2, 1) := dk_32 (dk_at dksJ24_getLongUnaligned_1 11 rfl rfl)
theorem dJ24_getLongUnaligned_36 : decode cJ24_getLongUnaligned 36 = .ok (.ldc2_w 205, 3) := dk_20 0 205 (dk_at dksJ24_getLongUnaligned_1 12 rfl rfl)
theorem dJ24_getLongUnaligned_39 : decode cJ24_getLongUnaligned 39 = .ok (.ladd, 1) := dk_97 (dk_at dksJ24_getLongUnaligned_1 15 rfl rfl)
theorem dJ24_getLongUnaligned_40 : decode cJ24_getLongUnaligned 40 = .ok (.invokevirtual 17, 3) := dk_182 0 17 (dk_at dksJ24_getLongUnaligned_1 16 rfl rfl)
theorem dJ24_getLongUnaligned_43 : decode cJ24_getLongUnaligned 43 = .ok (.invokestatic 698, 3) := dk_184 2 186 (dk_at dksJ24_getLongUnaligned_1 19 rfl rfl)
theorem dJ24_getLongUnaligned_46 : decode cJ24_getLongUnaligned 46 = .ok (.lreturn, 1) := dk_173 (dk_at dksJ24_getLongUnaligned_1 22 rfl rfl)
theorem dJ24_getLongUnaligned_47 : decode cJ24_getLongUnaligned 47 = .ok (.lload_n 2, 1) := dk_32 (dk_at dksJ24_getLongUnaligned_1 23 rfl rfl)
theorem dJ24_getLongUnaligned_48 : decode cJ24_getLongUnaligned 48 = .ok (.lconst 1, 1) := dk_10 (dk_at dksJ24_getLongUnaligned_2 0 rfl rfl)
theorem dJ24_getLongUnaligned_49 : decode cJ24_getLongUnaligned 49 = .ok (.land, 1) := dk_127 (dk_at dksJ24_getLongUnaligned_2 1 rfl rfl)
theorem dJ24_getLongUnaligned_50 : decode cJ24_getLongUnaligned 50 = .ok (.lconst 0, 1) := dk_9 (dk_at dksJ24_getLongUnaligned_2 2 rfl rfl)
theorem dJ24_getLongUnaligned_51 : decode cJ24_getLongUnaligned 51 = .ok (.lcmp, 1) := dk_148 (dk_at dksJ24_getLongUnaligned_2 3 rfl rfl)
theorem dJ24_getLongUnaligned_52 : decode cJ24_getLongUnaligned 52 = .ok (.ifCond .ne 43, 3) := dk_154 0 43 (dk_at dksJ24_getLongUnaligned_2 4 rfl rfl)
theorem dJ24_getLongUnaligned_55 : decode cJ24_getLongUnaligned 55 = .ok (.aload_n 0, 1) := dk_42 (dk_at dksJ24_getLongUnaligned_2 7 rfl rfl)
theorem dJ24_getLongUnaligned_56 : decode cJ24_getLongUnaligned 56 = .ok (.aload_n 1, 1) := dk_43 (dk_at dksJ24_getLongUnaligned_2 8 rfl rfl)
theorem dJ24_getLongUnaligned_57 : decode cJ24_getLongUnaligned 57 = .ok (.lload_n 2, 1) := dk_32 (dk_at dksJ24_getLongUnaligned_2 9 rfl rfl)
theorem dJ24_getLongUnaligned_58 : decode cJ24_getLongUnaligned 58 = .ok (.invokevirtual 47, 3) := dk_182 0 47 (dk_at dksJ24_getLongUnaligned_2 10 rfl rfl)
theorem dJ24_getLongUnaligned_61 : decode cJ24_getLongUnaligned 61 = .ok (.aload_n 0, 1) := dk_42 (dk_at dksJ24_getLongUnaligned_2 13 rfl rfl)
theorem dJ24_getLongUnaligned_62 : decode cJ24_getLongUnaligned 62 = .ok (.aload_n 1, 1) := dk_43 (dk_at dksJ24_getLongUnaligned_2 14 rfl rfl)
theorem dJ24_getLongUnaligned_63 : decode cJ24_getLongUnaligned 63 = .ok (.lload_n 2, 1) := dk_32 (dk_at dksJ24_getLongUnaligned_2 15 rfl rfl)
theorem dJ24_getLongUnaligned_64 : decode cJ24_getLongUnaligned 64 = .ok (.ldc2_w 203, 3) := dk_20 0 203 (dk_at dksJ24_getLongUnaligned_2 16 rfl rfl)
theorem dJ24_getLongUnaligned_67 : decode cJ24_getLongUnaligned 67 = .ok (.ladd, 1) := dk_97 (dk_at dksJ24_getLongUnaligned_2 19 rfl rfl)
theorem dJ24_getLongUnaligned_68 : decode cJ24_getLongUnaligned 68 = .ok (.invokevirtual 47, 3) := dk_182 0 47 (dk_at dksJ24_getLongUnaligned_2 20 rfl rfl)
theorem dJ24_getLongUnaligned_71 : decode cJ24_getLongUnaligned 71 = .ok (.aload_n 0, 1) := dk_42 (dk_at dksJ24_getLongUnaligned_2 23 rfl rfl)
theorem dJ24_getLongUnaligned_72 : decode cJ24_getLongUnaligned 72 = .ok (.aload_n 1, 1) := dk_43 (dk_at dksJ24_getLongUnaligned_3 0 rfl rfl)
theorem dJ24_getLongUnaligned_73 : decode cJ24_getLongUnaligned 73 = .ok (.lload_n 2, 1) := dk_32 (dk_at dksJ24_getLongUnaligned_3 1 rfl rfl)
theorem dJ24_getLongUnaligned_74 : decode cJ24_getLongUnaligned 74 = .ok (.ldc2_w 205, 3) := dk_20 0 205 (dk_at dksJ24_getLongUnaligned_3 2 rfl rfl)
theorem dJ24_getLongUnaligned_77 : decode cJ24_getLongUnaligned 77 = .ok (.ladd, 1) := dk_97 (dk_at dksJ24_getLongUnaligned_3 5 rfl rfl)
theorem dJ24_getLongUnaligned_78 : decode cJ24_getLongUnaligned 78 = .ok (.invokevirtual 47, 3) := dk_182 0 47 (dk_at dksJ24_getLongUnaligned_3 6 rfl rfl)
theorem dJ24_getLongUnaligned_81 : decode cJ24_getLongUnaligned 81 = .ok (.aload_n 0, 1) := dk_42 (dk_at dksJ24_getLongUnaligned_3 9 rfl rfl)
theorem dJ24_getLongUnaligned_82 : decode cJ24_getLongUnaligned 82 = .ok (.aload_n 1, 1) := dk_43 (dk_at dksJ24_getLongUnaligned_3 10 rfl rfl)
theorem dJ24_getLongUnaligned_83 : decode cJ24_getLongUnaligned 83 = .ok (.lload_n 2, 1) := dk_32 (dk_at dksJ24_getLongUnaligned_3 11 rfl rfl)
theorem dJ24_getLongUnaligned_84 : decode cJ24_getLongUnaligned 84 = .ok (.ldc2_w 702, 3) := dk_20 2 190 (dk_at dksJ24_getLongUnaligned_3 12 rfl rfl)
theorem dJ24_getLongUnaligned_87 : decode cJ24_getLongUnaligned 87 = .ok (.ladd, 1) := dk_97 (dk_at dksJ24_getLongUnaligned_3 15 rfl rfl)
theorem dJ24_getLongUnaligned_88 : decode cJ24_getLongUnaligned 88 = .ok (.invokevirtual 47, 3) := dk_182 0 47 (dk_at dksJ24_getLongUnaligned_3 16 rfl rfl)
theorem dJ24_getLongUnaligned_91 : decode cJ24_getLongUnaligned 91 = .ok (.invokestatic 704, 3) := dk_184 2 192 (dk_at dksJ24_getLongUnaligned_3 19 rfl rfl)
theorem dJ24_getLongUnaligned_94 : decode cJ24_getLongUnaligned 94 = .ok (.lreturn, 1) := dk_173 (dk_at dksJ24_getLongUnaligned_3 22 rfl rfl)
theorem dJ24_getLongUnaligned_95 : decode cJ24_getLongUnaligned 95 = .ok (.aload_n 0, 1) := dk_42 (dk_at dksJ24_getLongUnaligned_3 23 rfl rfl)
theorem dJ24_getLongUnaligned_96 : decode cJ24_getLongUnaligned 96 = .ok (.aload_n 1, 1) := dk_43 (dk_at dksJ24_getLongUnaligned_4 0 rfl rfl)
theorem dJ24_getLongUnaligned_97 : decode cJ24_getLongUnaligned 97 = .ok (.lload_n 2, 1) := dk_32 (dk_at dksJ24_getLongUnaligned_4 1 rfl rfl)
theorem dJ24_getLongUnaligned_98 : decode cJ24_getLongUnaligned 98 = .ok (.invokevirtual 39, 3) := dk_182 0 39 (dk_at dksJ24_getLongUnaligned_4 2 rfl rfl)
theorem dJ24_getLongUnaligned_101 : decode cJ24_getLongUnaligned 101 = .ok (.aload_n 0, 1) := dk_42 (dk_at dksJ24_getLongUnaligned_4 5 rfl rfl)
theorem dJ24_getLongUnaligned_102 : decode cJ24_getLongUnaligned 102 = .ok (.aload_n 1, 1) := dk_43 (dk_at dksJ24_getLongUnaligned_4 6 rfl rfl)
theorem dJ24_getLongUnaligned_103 : decode cJ24_getLongUnaligned 103 = .ok (.lload_n 2, 1) := dk_32 (dk_at dksJ24_getLongUnaligned_4 7 rfl rfl)
theorem dJ24_getLongUnaligned_104 : decode cJ24_getLongUnaligned 104 = .ok (.lconst 1, 1) := dk_10 (dk_at dksJ24_getLongUnaligned_4 8 rfl rfl)
theorem dJ24_getLongUnaligned_105 : decode cJ24_getLongUnaligned 105 = .ok (.ladd, 1) := dk_97 (dk_at dksJ24_getLongUnaligned_4 9 rfl rfl)
theorem dJ24_getLongUnaligned_106 : decode cJ24_getLongUnaligned 106 = .ok (.invokevirtual 39, 3) := dk_182 0 39 (dk_at dksJ24_getLongUnaligned_4 10 rfl rfl)
theorem dJ24_getLongUnaligned_109 : decode cJ24_getLongUnaligned 109 = .ok (.aload_n 0, 1) := dk_42 (dk_at dksJ24_getLongUnaligned_4 13 rfl rfl)
theorem dJ24_getLongUnaligned_110 : decode cJ24_getLongUnaligned 110 = .ok (.aload_n 1, 1) := dk_43 (dk_at dksJ24_getLongUnaligned_4 14 rfl rfl)
theorem dJ24_getLongUnaligned_111 : decode cJ24_getLongUnaligned 111 = .ok (.lload_n 2, 1) := dk_32 (dk_at dksJ24_getLongUnaligned_4 15 rfl rfl)
theorem dJ24_getLongUnaligned_112 : decode cJ24_getLongUnaligned 112 = .ok (.ldc2_w 203, 3) := dk_20 0 203 (dk_at dksJ24_getLongUnaligned_4 16 rfl rfl)
theorem dJ24_getLongUnaligned_115 : decode cJ24_getLongUnaligned 115 = .ok (.ladd, 1) := dk_97 (dk_at dksJ24_getLongUnaligned_4 19 rfl rfl)
theorem dJ24_getLongUnaligned_116 : decode cJ24_getLongUnaligned 116 = .ok (.invokevirtual 39, 3) := dk_182 0 39 (dk_at dksJ24_getLongUnaligned_4 20 rfl rfl)
theorem dJ24_getLongUnaligned_119 : decode cJ24_getLongUnaligned 119 = .ok (.aload_n 0, 1) := dk_42 (dk_at dksJ24_getLongUnaligned_4 23 rfl rfl)
theorem dJ24_getLongUnaligned_120 : decode cJ24_getLongUnaligned 120 = .ok (.aload_n 1, 1) := dk_43 (dk_at dksJ24_getLongUnaligned_5 0 rfl rfl)
theorem dJ24_getLongUnaligned_121 : decode cJ24_getLongUnaligned 121 = .ok (.lload_n 2, 1) := dk_32 (dk_at dksJ24_getLongUnaligned_5 1 rfl rfl)
theorem dJ24_getLongUnaligned_122 : decode cJ24_getLongUnaligned 122 = .ok (.ldc2_w 349, 3) := dk_20 1 93 (dk_at dksJ24_getLongUnaligned_5 2 rfl rfl)
theorem dJ24_getLongUnaligned_125 : decode cJ24_getLongUnaligned 125 = .ok (.ladd, 1) := dk_97 (dk_at dksJ24_getLongUnaligned_5 5 rfl rfl)
theorem dJ24_getLongUnaligned_126 : decode cJ24_getLongUnaligned 126 = .ok (.invokevirtual 39, 3) := dk_182 0 39 (dk_at dksJ24_getLongUnaligned_5 6 rfl rfl)
theorem dJ24_getLongUnaligned_129 : decode cJ24_getLongUnaligned 129 = .ok (.aload_n 0, 1) := dk_42 (dk_at dksJ24_getLongUnaligned_5 9 rfl rfl)
theorem dJ24_getLongUnaligned_130 : decode cJ24_getLongUnaligned 130 = .ok (.aload_n 1, 1) := dk_43 (dk_at dksJ24_getLongUnaligned_5 10 rfl rfl)
theorem dJ24_getLongUnaligned_131 : decode cJ24_getLongUnaligned 131 = .ok (.lload_n 2, 1) := dk_32 (dk_at dksJ24_getLongUnaligned_5 11 rfl rfl)
theorem dJ24_getLongUnaligned_132 : decode cJ24_getLongUnaligned 132 = .ok (.ldc2_w 205, 3) := dk_20 0 205 (dk_at dksJ24_getLongUnaligned_5 12 rfl rfl)
theorem dJ24_getLongUnaligned_135 : decode cJ24_getLongUnaligned 135 = .ok (.ladd, 1) := dk_97 (dk_at dksJ24_getLongUnaligned_5 15 rfl rfl)
theorem dJ24_getLongUnaligned_136 : decode cJ24_getLongUnaligned 136 = .ok (.invokevirtual 39, 3) := dk_182 0 39 (dk_at dksJ24_getLongUnaligned_5 16 rfl rfl)
theorem dJ24_getLongUnaligned_139 : decode cJ24_getLongUnaligned 139 = .ok (.aload_n 0, 1) := dk_42 (dk_at dksJ24_getLongUnaligned_5 19 rfl rfl)
theorem dJ24_getLongUnaligned_140 : decode cJ24_getLongUnaligned 140 = .ok (.aload_n 1, 1) := dk_43 (dk_at dksJ24_getLongUnaligned_5 20 rfl rfl)
theorem dJ24_getLongUnaligned_141 : decode cJ24_getLongUnaligned 141 = .ok (.lload_n 2, 1) := dk_32 (dk_at dksJ24_getLongUnaligned_5 21 rfl rfl)
theorem dJ24_getLongUnaligned_142 : decode cJ24_getLongUnaligned 142 = .ok (.ldc2_w 707, 3) := dk_20 2 195 (dk_at dksJ24_getLongUnaligned_6 0 rfl rfl)
theorem dJ24_getLongUnaligned_145 : decode cJ24_getLongUnaligned 145 = .ok (.ladd, 1) := dk_97 (dk_at dksJ24_getLongUnaligned_6 3 rfl rfl)
theorem dJ24_getLongUnaligned_146 : decode cJ24_getLongUnaligned 146 = .ok (.invokevirtual 39, 3) := dk_182 0 39 (dk_at dksJ24_getLongUnaligned_6 4 rfl rfl)
theorem dJ24_getLongUnaligned_149 : decode cJ24_getLongUnaligned 149 = .ok (.aload_n 0, 1) := dk_42 (dk_at dksJ24_getLongUnaligned_6 7 rfl rfl)
theorem dJ24_getLongUnaligned_150 : decode cJ24_getLongUnaligned 150 = .ok (.aload_n 1, 1) := dk_43 (dk_at dksJ24_getLongUnaligned_6 8 rfl rfl)
theorem dJ24_getLongUnaligned_151 : decode cJ24_getLongUnaligned 151 = .ok (.lload_n 2, 1) := dk_32 (dk_at dksJ24_getLongUnaligned_6 9 rfl rfl)
theorem dJ24_getLongUnaligned_152 : decode cJ24_getLongUnaligned 152 = .ok (.ldc2_w 702, 3) := dk_20 2 190 (dk_at dksJ24_getLongUnaligned_6 10 rfl rfl)
theorem dJ24_getLongUnaligned_155 : decode cJ24_getLongUnaligned 155 = .ok (.ladd, 1) := dk_97 (dk_at dksJ24_getLongUnaligned_6 13 rfl rfl)
theorem dJ24_getLongUnaligned_156 : decode cJ24_getLongUnaligned 156 = .ok (.invokevirtual 39, 3) := dk_182 0 39 (dk_at dksJ24_getLongUnaligned_6 14 rfl rfl)
theorem dJ24_getLongUnaligned_159 : decode cJ24_getLongUnaligned 159 = .ok (.aload_n 0, 1) := dk_42 (dk_at dksJ24_getLongUnaligned_6 17 rfl rfl)
theorem dJ24_getLongUnaligned_160 : decode cJ24_getLongUnaligned 160 = .ok (.aload_n 1, 1) := dk_43 (dk_at dksJ24_getLongUnaligned_6 18 rfl rfl)
theorem dJ24_getLongUnaligned_161 : decode cJ24_getLongUnaligned 161 = .ok (.lload_n 2, 1) := dk_32 (dk_at dksJ24_getLongUnaligned_6 19 rfl rfl)
theorem dJ24_getLongUnaligned_162 : decode cJ24_getLongUnaligned 162 = .ok (.ldc2_w 696, 3) := dk_20 2 184 (dk_at dksJ24_getLongUnaligned_6 20 rfl rfl)
theorem dJ24_getLongUnaligned_165 : decode cJ24_getLongUnaligned 165 = .ok (.ladd, 1) := dk_97 (dk_at dksJ24_getLongUnaligned_6 23 rfl rfl)
theorem dJ24_getLongUnaligned_166 : decode cJ24_getLongUnaligned 166 = .ok (.invokevirtual 39, 3) := dk_182 0 39 (dk_at dksJ24_getLongUnaligned_7 0 rfl rfl)
theorem dJ24_getLongUnaligned_169 : decode cJ24_getLongUnaligned 169 = .ok (.invokestatic 709, 3) := dk_184 2 197 (dk_at dksJ24_getLongUnaligned_7 3 rfl rfl)
theorem dJ24_getLongUnaligned_172 : decode cJ24_getLongUnaligned 172 = .ok (.lreturn, 1) := dk_173 (dk_at dksJ24_getLongUnaligned_7 6 rfl rfl)
abbrev cJ24_makeLong : ByteArray := prog_92_method_353_code
def yJ24_makeLong : MethodName := ⟨RJ24, "makeLong", "(II)J"⟩
def dkwJ24_makeLong_1 : List UInt8 := [173]
abbrev dktJ24_makeLong_1 : List UInt8 := dkwJ24_makeLong_1 ++ []
def dkwJ24_makeLong_0 : List UInt8 := [26, 184, 3, 23, 16, 32, 3, 184, 3, 16, 121, 27, 184, 3, 23, 16, 32, 16, 32, 184, 3, 16, 121, 129]
abbrev dktJ24_makeLong_0 : List UInt8 := dkwJ24_makeLong_0 ++ dktJ24_makeLong_1
theorem dksJ24_makeLong_0 : cJ24_makeLong.data.toList.drop 0 = dktJ24_makeLong_0 := by decide +kernel
theorem dksJ24_makeLong_1 : cJ24_makeLong.data.toList.drop 24 = dktJ24_makeLong_1 := dk_seg dksJ24_makeLong_0 24 rfl rfl
theorem dJ24_makeLong_0 : decode cJ24_makeLong 0 = .ok (.iload_n 0, 1) := dk_26 (dk_at dksJ24_makeLong_0 0 rfl rfl)
theorem dJ24_makeLong_1 : decode cJ24_makeLong 1 = .ok (.invokestatic 791, 3) := dk_184 3 23 (dk_at dksJ24_makeLong_0 1 rfl rfl)
theorem dJ24_makeLong_4 : decode cJ24_makeLong 4 = .ok (.bipush 32, 2) := dk_16 32 (dk_at dksJ24_makeLong_0 4 rfl rfl)
theorem dJ24_makeLong_6 : decode cJ24_makeLong 6 = .ok (.iconst 0, 1) := dk_3 (dk_at dksJ24_makeLong_0 6 rfl rfl)
theorem dJ24_makeLong_7 : decode cJ24_makeLong 7 = .ok (.invokestatic 784, 3) := dk_184 3 16 (dk_at dksJ24_makeLong_0 7 rfl rfl)
theorem dJ24_makeLong_10 : decode cJ24_makeLong 10 = .ok (.lshl, 1) := dk_121 (dk_at dksJ24_makeLong_0 10 rfl rfl)
theorem dJ24_makeLong_11 : decode cJ24_makeLong 11 = .ok (.iload_n 1, 1) := dk_27 (dk_at dksJ24_makeLong_0 11 rfl rfl)
theorem dJ24_makeLong_12 : decode cJ24_makeLong 12 = .ok (.invokestatic 791, 3) := dk_184 3 23 (dk_at dksJ24_makeLong_0 12 rfl rfl)
theorem dJ24_makeLong_15 : decode cJ24_makeLong 15 = .ok (.bipush 32, 2) := dk_16 32 (dk_at dksJ24_makeLong_0 15 rfl rfl)
theorem dJ24_makeLong_17 : decode cJ24_makeLong 17 = .ok (.bipush 32, 2) := dk_16 32 (dk_at dksJ24_makeLong_0 17 rfl rfl)
theorem dJ24_makeLong_19 : decode cJ24_makeLong 19 = .ok (.invokestatic 784, 3) := dk_184 3 16 (dk_at dksJ24_makeLong_0 19 rfl rfl)
theorem dJ24_makeLong_22 : decode cJ24_makeLong 22 = .ok (.lshl, 1) := dk_121 (dk_at dksJ24_makeLong_0 22 rfl rfl)
theorem dJ24_makeLong_23 : decode cJ24_makeLong 23 = .ok (.lor, 1) := dk_129 (dk_at dksJ24_makeLong_0 23 rfl rfl)
theorem dJ24_makeLong_24 : decode cJ24_makeLong 24 = .ok (.lreturn, 1) := dk_173 (dk_at dksJ24_makeLong_1 0 rfl rfl)
abbrev cJ24_toUnsignedLong : ByteArray := prog_92_method_370_code
def yJ24_toUnsignedLong : MethodName := ⟨RJ24, "toUnsignedLong", "(I)J"⟩
def dkwJ24_toUnsignedLong_0 : List UInt8 := [26, 133, 20, 3, 44, 127, 173]
abbrev dktJ24_toUnsignedLong_0 : List UInt8 := dkwJ24_toUnsignedLong_0 ++ []
theorem dksJ24_toUnsignedLong_0 : cJ24_toUnsignedLong.data.toList.drop 0 = dktJ24_toUnsignedLong_0 := by decide +kernel
theorem dJ24_toUnsignedLong_0 : decode cJ24_toUnsignedLong 0 = .ok (.iload_n 0, 1) := dk_26 (dk_at dksJ24_toUnsignedLong_0 0 rfl rfl)
theorem dJ24_toUnsignedLong_1 : decode cJ24_toUnsignedLong 1 = .ok (.i2l, 1) := dk_133 (dk_at dksJ24_toUnsignedLong_0 1 rfl rfl)
theorem dJ24_toUnsignedLong_2 : decode cJ24_toUnsignedLong 2 = .ok (.ldc2_w 812, 3) := dk_20 3 44 (dk_at dksJ24_toUnsignedLong_0 2 rfl rfl)
theorem dJ24_toUnsignedLong_5 : decode cJ24_toUnsignedLong 5 = .ok (.land, 1) := dk_127 (dk_at dksJ24_toUnsignedLong_0 5 rfl rfl)
theorem dJ24_toUnsignedLong_6 : decode cJ24_toUnsignedLong 6 = .ok (.lreturn, 1) := dk_173 (dk_at dksJ24_toUnsignedLong_0 6 rfl rfl)
abbrev cJ24_pickPos : ByteArray := prog_92_method_350_code
def yJ24_pickPos : MethodName := ⟨RJ24, "pickPos", "(II)I"⟩
def dkwJ24_pickPos_0 : List UInt8 := [178, 1, 95, 153, 0, 9, 26, 27, 100, 167, 0, 4, 27, 172]
abbrev dktJ24_pickPos_0 : List UInt8 := dkwJ24_pickPos_0 ++ []
theorem dksJ24_pickPos_0 : cJ24_pickPos.data.toList.drop 0 = dktJ24_pickPos_0 := by decide +kernel
theorem dJ24_pickPos_0 : decode cJ24_pickPos 0 = .ok (.getstatic 351, 3) := dk_178 1 95 (dk_at dksJ24_pickPos_0 0 rfl rfl)
theorem dJ24_pickPos_3 : decode cJ24_pickPos 3 = .ok (.ifCond .eq 9, 3) := dk_153 0 9 (dk_at dksJ24_pickPos_0 3 rfl rfl)
theorem dJ24_pickPos_6 : decode cJ24_pickPos 6 = .ok (.iload_n 0, 1) := dk_26 (dk_at dksJ24_pickPos_0 6 rfl rfl)
theorem dJ24_pickPos_7 : decode cJ24_pickPos 7 = .ok (.iload_n 1, 1) := dk_27 (dk_at dksJ24_pickPos_0 7 rfl rfl)
theorem dJ24_pickPos_8 : decode cJ24_pickPos 8 = .ok (.isub, 1) := dk_100 (dk_at dksJ24_pickPos_0 8 rfl rfl)
theorem dJ24_pickPos_9 : decode cJ24_pickPos 9 = .ok (.goto 4, 3) := dk_167 0 4 (dk_at dksJ24_pickPos_0 9 rfl rfl)
theorem dJ24_pickPos_12 : decode cJ24_pickPos 12 = .ok (.iload_n 1, 1) := dk_27 (dk_at dksJ24_pickPos_0 12 rfl rfl)
theorem dJ24_pickPos_13 : decode cJ24_pickPos 13 = .ok (.ireturn, 1) := dk_172 (dk_at dksJ24_pickPos_0 13 rfl rfl)
abbrev cJ24_makeLong_2 : ByteArray := prog_92_method_352_code
def yJ24_makeLong_2 : MethodName := ⟨RJ24, "makeLong", "(SSSS)J"⟩
def dkwJ24_makeLong_2_2 : List UInt8 := [121, 129, 173]
abbrev dktJ24_makeLong_2_2 : List UInt8 := dkwJ24_makeLong_2_2 ++ []
def dkwJ24_makeLong_2_1 : List UInt8 := [28, 184, 3, 20, 16, 48, 16, 32, 184, 3, 16, 121, 129, 29, 184, 3, 20, 16, 48, 16, 48, 184, 3, 16]
abbrev dktJ24_makeLong_2_1 : List UInt8 := dkwJ24_makeLong_2_1 ++ dktJ24_makeLong_2_2
def dkwJ24_makeLong_2_0 : List UInt8 := [26, 184, 3, 20, 16, 48, 3, 184, 3, 16, 121, 27, 184, 3, 20, 16, 48, 16, 16, 184, 3, 16, 121, 129]
abbrev dktJ24_makeLong_2_0 : List UInt8 := dkwJ24_makeLong_2_0 ++ dktJ24_makeLong_2_1
theorem dksJ24_makeLong_2_0 : cJ24_makeLong_2.data.toList.drop 0 = dktJ24_makeLong_2_0 := by decide +kernel
theorem dksJ24_makeLong_2_1 : cJ24_makeLong_2.data.toList.drop 24 = dktJ24_makeLong_2_1 := dk_seg dksJ24_makeLong_2_0 24 rfl rfl
theorem dksJ24_makeLong_2_2 : cJ24_makeLong_2.data.toList.drop 48 = dktJ24_makeLong_2_2 := dk_seg dksJ24_makeLong_2_1 24 rfl rfl
theorem dJ24_makeLong_2_0 : decode cJ24_makeLong_2 0 = .ok (.iload_n 0, 1) := dk_26 (dk_at dksJ24_makeLong_2_0 0 rfl rfl)
theorem dJ24_makeLong_2_1 : decode cJ24_makeLong_2 1 = .ok (.invokestatic 788, 3) := dk_184 3 20 (dk_at dksJ24_makeLong_2_0 1 rfl rfl)
theorem dJ24_makeLong_2_4 : decode cJ24_makeLong_2 4 = .ok (.bipush 48, 2) := dk_16 48 (dk_at dksJ24_makeLong_2_0 4 rfl rfl)
theorem dJ24_makeLong_2_6 : decode cJ24_makeLong_2 6 = .ok (.iconst 0, 1) := dk_3 (dk_at dksJ24_makeLong_2_0 6 rfl rfl)
theorem dJ24_makeLong_2_7 : decode cJ24_makeLong_2 7 = .ok (.invokestatic 784, 3) := dk_184 3 16 (dk_at dksJ24_makeLong_2_0 7 rfl rfl)
theorem dJ24_makeLong_2_10 : decode cJ24_makeLong_2 10 = .ok (.lshl, 1) := dk_121 (dk_at dksJ24_makeLong_2_0 10 rfl rfl)
theorem dJ24_makeLong_2_11 : decode cJ24_makeLong_2 11 = .ok (.iload_n 1, 1) := dk_27 (dk_at dksJ24_makeLong_2_0 11 rfl rfl)
theorem dJ24_makeLong_2_12 : decode cJ24_makeLong_2 12 = .ok (.invokestatic 788, 3) := dk_184 3 20 (dk_at dksJ24_makeLong_2_0 12 rfl rfl)
theorem dJ24_makeLong_2_15 : decode cJ24_makeLong_2 15 = .ok (.bipush 48, 2) := dk_16 48 (dk_at dksJ24_makeLong_2_0 15 rfl rfl)
theorem dJ24_makeLong_2_17 : decode cJ24_makeLong_2 17 = .ok (.bipush 16, 2) := dk_16 16 (dk_at dksJ24_makeLong_2_0 17 rfl rfl)
theorem dJ24_makeLong_2_19 : decode cJ24_makeLong_2 19 = .ok (.invokestatic 784, 3) := dk_184 3 16 (dk_at dksJ24_makeLong_2_0 19 rfl rfl)
theorem dJ24_makeLong_2_22 : decode cJ24_makeLong_2 22 = .ok (.lshl, 1) := dk_121 (dk_at dksJ24_makeLong_2_0 22 rfl rfl)
theorem dJ24_makeLong_2_23 : decode cJ24_makeLong_2 23 = .ok (.lor, 1) := dk_129 (dk_at dksJ24_makeLong_2_0 23 rfl rfl)
theorem dJ24_makeLong_2_24 : decode cJ24_makeLong_2 24 = .ok (.iload_n 2, 1) := dk_28 (dk_at dksJ24_makeLong_2_1 0 rfl rfl)
theorem dJ24_makeLong_2_25 : decode cJ24_makeLong_2 25 = .ok (.invokestatic 788, 3) := dk_184 3 20 (dk_at dksJ24_makeLong_2_1 1 rfl rfl)
theorem dJ24_makeLong_2_28 : decode cJ24_makeLong_2 28 = .ok (.bipush 48, 2) := dk_16 48 (dk_at dksJ24_makeLong_2_1 4 rfl rfl)
theorem dJ24_makeLong_2_30 : decode cJ24_makeLong_2 30 = .ok (.bipush 32, 2) := dk_16 32 (dk_at dksJ24_makeLong_2_1 6 rfl rfl)
theorem dJ24_makeLong_2_32 : decode cJ24_makeLong_2 32 = .ok (.invokestatic 784, 3) := dk_184 3 16 (dk_at dksJ24_makeLong_2_1 8 rfl rfl)
theorem dJ24_makeLong_2_35 : decode cJ24_makeLong_2 35 = .ok (.lshl, 1) := dk_121 (dk_at dksJ24_makeLong_2_1 11 rfl rfl)
theorem dJ24_makeLong_2_36 : decode cJ24_makeLong_2 36 = .ok (.lor, 1) := dk_129 (dk_at dksJ24_makeLong_2_1 12 rfl rfl)
theorem dJ24_makeLong_2_37 : decode cJ24_makeLong_2 37 = .ok (.iload_n 3, 1) := dk_29 (dk_at dksJ24_makeLong_2_1 13 rfl rfl)
theorem dJ24_makeLong_2_38 : decode cJ24_makeLong_2 38 = .ok (.invokestatic 788, 3) := dk_184 3 20 (dk_at dksJ24_makeLong_2_1 14 rfl rfl)
theorem dJ24_makeLong_2_41 : decode cJ24_makeLong_2 41 = .ok (.bipush 48, 2) := dk_16 48 (dk_at dksJ24_makeLong_2_1 17 rfl rfl)
theorem dJ24_makeLong_2_43 : decode cJ24_makeLong_2 43 = .ok (.bipush 48, 2) := dk_16 48 (dk_at dksJ24_makeLong_2_1 19 rfl rfl)
theorem dJ24_makeLong_2_45 : decode cJ24_makeLong_2 45 = .ok (.invokestatic 784, 3) := dk_184 3 16 (dk_at dksJ24_makeLong_2_1 21 rfl rfl)
theorem dJ24_makeLong_2_48 : decode cJ24_makeLong_2 48 = .ok (.lshl, 1) := dk_121 (dk_at dksJ24_makeLong_2_2 0 rfl rfl)
theorem dJ24_makeLong_2_49 : decode cJ24_makeLong_2 49 = .ok (.lor, 1) := dk_129 (dk_at dksJ24_makeLong_2_2 1 rfl rfl)
theorem dJ24_makeLong_2_50 : decode cJ24_makeLong_2 50 = .ok (.lreturn, 1) := dk_173 (dk_at dksJ24_makeLong_2_2 2 rfl rfl)
abbrev cJ24_toUnsignedLong_2 : ByteArray := prog_92_method_369_code
def yJ24_toUnsignedLong_2 : MethodName := ⟨RJ24, "toUnsignedLong", "(S)J"⟩
def dkwJ24_toUnsignedLong_2_0 : List UInt8 := [26, 133, 20, 3, 42, 127, 173]
abbrev dktJ24_toUnsignedLong_2_0 : List UInt8 := dkwJ24_toUnsignedLong_2_0 ++ []
theorem dksJ24_toUnsignedLong_2_0 : cJ24_toUnsignedLong_2.data.toList.drop 0 = dktJ24_toUnsignedLong_2_0 := by decide +kernel
theorem dJ24_toUnsignedLong_2_0 : decode cJ24_toUnsignedLong_2 0 = .ok (.iload_n 0, 1) := dk_26 (dk_at dksJ24_toUnsignedLong_2_0 0 rfl rfl)
theorem dJ24_toUnsignedLong_2_1 : decode cJ24_toUnsignedLong_2 1 = .ok (.i2l, 1) := dk_133 (dk_at dksJ24_toUnsignedLong_2_0 1 rfl rfl)
theorem dJ24_toUnsignedLong_2_2 : decode cJ24_toUnsignedLong_2 2 = .ok (.ldc2_w 810, 3) := dk_20 3 42 (dk_at dksJ24_toUnsignedLong_2_0 2 rfl rfl)
theorem dJ24_toUnsignedLong_2_5 : decode cJ24_toUnsignedLong_2 5 = .ok (.land, 1) := dk_127 (dk_at dksJ24_toUnsignedLong_2_0 5 rfl rfl)
theorem dJ24_toUnsignedLong_2_6 : decode cJ24_toUnsignedLong_2 6 = .ok (.lreturn, 1) := dk_173 (dk_at dksJ24_toUnsignedLong_2_0 6 rfl rfl)
abbrev cJ24_makeLong_3 : ByteArray := prog_92_method_351_code
def yJ24_makeLong_3 : MethodName := ⟨RJ24, "makeLong", "(BBBBBBBB)J"⟩
def dkwJ24_makeLong_3_4 : List UInt8 := [184, 3, 13, 16, 56, 16, 56, 184, 3, 16, 121, 129, 173]
abbrev dktJ24_makeLong_3_4 : List UInt8 := dkwJ24_makeLong_3_4 ++ []
def dkwJ24_makeLong_3_3 : List UInt8 := [16, 40, 184, 3, 16, 121, 129, 21, 6, 184, 3, 13, 16, 56, 16, 48, 184, 3, 16, 121, 129, 21, 7]
abbrev dktJ24_makeLong_3_3 : List UInt8 := dkwJ24_makeLong_3_3 ++ dktJ24_makeLong_3_4
def dkwJ24_makeLong_3_2 : List UInt8 := [121, 129, 21, 4, 184, 3, 13, 16, 56, 16, 32, 184, 3, 16, 121, 129, 21, 5, 184, 3, 13, 16, 56]
abbrev dktJ24_makeLong_3_2 : List UInt8 := dkwJ24_makeLong_3_2 ++ dktJ24_makeLong_3_3
def dkwJ24_makeLong_3_1 : List UInt8 := [28, 184, 3, 13, 16, 56, 16, 16, 184, 3, 16, 121, 129, 29, 184, 3, 13, 16, 56, 16, 24, 184, 3, 16]
abbrev dktJ24_makeLong_3_1 : List UInt8 := dkwJ24_makeLong_3_1 ++ dktJ24_makeLong_3_2
def dkwJ24_makeLong_3_0 : List UInt8 := [26, 184, 3, 13, 16, 56, 3, 184, 3, 16, 121, 27, 184, 3, 13, 16, 56, 16, 8, 184, 3, 16, 121, 129]
abbrev dktJ24_makeLong_3_0 : List UInt8 := dkwJ24_makeLong_3_0 ++ dktJ24_makeLong_3_1
theorem dksJ24_makeLong_3_0 : cJ24_makeLong_3.data.toList.drop 0 = dktJ24_makeLong_3_0 := by decide +kernel
theorem dksJ24_makeLong_3_1 : cJ24_makeLong_3.data.toList.drop 24 = dktJ24_makeLong_3_1 := dk_seg dksJ24_makeLong_3_0 24 rfl rfl
theorem dksJ24_makeLong_3_2 : cJ24_makeLong_3.data.toList.drop 48 = dktJ24_makeLong_3_2 := dk_seg dksJ24_makeLong_3_1 24 rfl rfl
theorem dksJ24_makeLong_3_3 : cJ24_makeLong_3.data.toList.drop 71 = dktJ24_makeLong_3_3 := dk_seg dksJ24_makeLong_3_2 23 rfl rfl
theorem dksJ24_makeLong_3_4 : cJ24_makeLong_3.data.toList.drop 94 = dktJ24_makeLong_3_4 := dk_seg dksJ24_makeLong_3_3 23 rfl rfl
theorem dJ24_makeLong_3_0 : decode cJ24_makeLong_3 0 = .ok (.iload_n 0, 1) := dk_26 (dk_at dksJ24_makeLong_3_0 0 rfl rfl)
theorem dJ24_makeLong_3_1 : decode cJ24_makeLong_3 1 = .ok (.invokestatic 781, 3) := dk_184 3 13 (dk_at dksJ24_makeLong_3_0 1 rfl rfl)
theorem dJ24_makeLong_3_4 : decode cJ24_makeLong_3 4 = .ok (.bipush 56, 2) := dk_16 56 (dk_at dksJ24_makeLong_3_0 4 rfl rfl)
theorem dJ24_makeLong_3_6 : decode cJ24_makeLong_3 6 = .ok (.iconst 0, 1) := dk_3 (dk_at dksJ24_makeLong_3_0 6 rfl rfl)
theorem dJ24_makeLong_3_7 : decode cJ24_makeLong_3 7 = .ok (.invokestatic 784, 3) := dk_184 3 16 (dk_at dksJ24_makeLong_3_0 7 rfl rfl)
theorem dJ24_makeLong_3_10 : decode cJ24_makeLong_3 10 = .ok (.lshl, 1) := dk_121 (dk_at dksJ24_makeLong_3_0 10 rfl rfl)
theorem dJ24_makeLong_3_11 : decode cJ24_makeLong_3 11 = .ok (.iload_n 1, 1) := dk_27 (dk_at dksJ24_makeLong_3_0 11 rfl rfl)
theorem dJ24_makeLong_3_12 : decode cJ24_makeLong_3 12 = .ok (.invokestatic 781, 3) := dk_184 3 13 (dk_at dksJ24_makeLong_3_0 12 rfl rfl)
theorem dJ24_makeLong_3_15 : decode cJ24_makeLong_3 15 = .ok (.bipush 56, 2) := dk_16 56 (dk_at dksJ24_makeLong_3_0 15 rfl rfl)
theorem dJ24_makeLong_3_17 : decode cJ24_makeLong_3 17 = .ok (.bipush 8, 2) := dk_16 8 (dk_at dksJ24_makeLong_3_0 17 rfl rfl)
theorem dJ24_makeLong_3_19 : decode cJ24_makeLong_3 19 = .ok (.invokestatic 784, 3) := dk_184 3 16 (dk_at dksJ24_makeLong_3_0 19 rfl rfl)
theorem dJ24_makeLong_3_22 : decode cJ24_makeLong_3 22 = .ok (.lshl, 1) := dk_121 (dk_at dksJ24_makeLong_3_0 22 rfl rfl)
theorem dJ24_makeLong_3_23 : decode cJ24_makeLong_3 23 = .ok (.lor, 1) := dk_129 (dk_at dksJ24_makeLong_3_0 23 rfl rfl)
theorem dJ24_makeLong_3_24 : decode cJ24_makeLong_3 24 = .ok (.iload_n 2, 1) := dk_28 (dk_at dksJ24_makeLong_3_1 0 rfl rfl)
theorem dJ24_makeLong_3_25 : decode cJ24_makeLong_3 25 = .ok (.invokestatic 781, 3) := dk_184 3 13 (dk_at dksJ24_makeLong_3_1 1 rfl rfl)
theorem dJ24_makeLong_3_28 : decode cJ24_makeLong_3 28 = .ok (.bipush 56, 2) := dk_16 56 (dk_at dksJ24_makeLong_3_1 4 rfl rfl)
theorem dJ24_makeLong_3_30 : decode cJ24_makeLong_3 30 = .ok (.bipush 16, 2) := dk_16 16 (dk_at dksJ24_makeLong_3_1 6 rfl rfl)
theorem dJ24_makeLong_3_32 : decode cJ24_makeLong_3 32 = .ok (.invokestatic 784, 3) := dk_184 3 16 (dk_at dksJ24_makeLong_3_1 8 rfl rfl)
theorem dJ24_makeLong_3_35 : decode cJ24_makeLong_3 35 = .ok (.lshl, 1) := dk_121 (dk_at dksJ24_makeLong_3_1 11 rfl rfl)
theorem dJ24_makeLong_3_36 : decode cJ24_makeLong_3 36 = .ok (.lor, 1) := dk_129 (dk_at dksJ24_makeLong_3_1 12 rfl rfl)
theorem dJ24_makeLong_3_37 : decode cJ24_makeLong_3 37 = .ok (.iload_n 3, 1) := dk_29 (dk_at dksJ24_makeLong_3_1 13 rfl rfl)
theorem dJ24_makeLong_3_38 : decode cJ24_makeLong_3 38 = .ok (.invokestatic 781, 3) := dk_184 3 13 (dk_at dksJ24_makeLong_3_1 14 rfl rfl)
theorem dJ24_makeLong_3_41 : decode cJ24_makeLong_3 41 = .ok (.bipush 56, 2) := dk_16 56 (dk_at dksJ24_makeLong_3_1 17 rfl rfl)
theorem dJ24_makeLong_3_43 : decode cJ24_makeLong_3 43 = .ok (.bipush 24, 2) := dk_16 24 (dk_at dksJ24_makeLong_3_1 19 rfl rfl)
theorem dJ24_makeLong_3_45 : decode cJ24_makeLong_3 45 = .ok (.invokestatic 784, 3) := dk_184 3 16 (dk_at dksJ24_makeLong_3_1 21 rfl rfl)
theorem dJ24_makeLong_3_48 : decode cJ24_makeLong_3 48 = .ok (.lshl, 1) := dk_121 (dk_at dksJ24_makeLong_3_2 0 rfl rfl)
theorem dJ24_makeLong_3_49 : decode cJ24_makeLong_3 49 = .ok (.lor, 1) := dk_129 (dk_at dksJ24_makeLong_3_2 1 rfl rfl)
theorem dJ24_makeLong_3_50 : decode cJ24_makeLong_3 50 = .ok (.iload 4, 2) := dk_21 4 (dk_at dksJ24_makeLong_3_2 2 rfl rfl)
theorem dJ24_makeLong_3_52 : decode cJ24_makeLong_3 52 = .ok (.invokestatic 781, 3) := dk_184 3 13 (dk_at dksJ24_makeLong_3_2 4 rfl rfl)
theorem dJ24_makeLong_3_55 : decode cJ24_makeLong_3 55 = .ok (.bipush 56, 2) := dk_16 56 (dk_at dksJ24_makeLong_3_2 7 rfl rfl)
theorem dJ24_makeLong_3_57 : decode cJ24_makeLong_3 57 = .ok (.bipush 32, 2) := dk_16 32 (dk_at dksJ24_makeLong_3_2 9 rfl rfl)
theorem dJ24_makeLong_3_59 : decode cJ24_makeLong_3 59 = .ok (.invokestatic 784, 3) := dk_184 3 16 (dk_at dksJ24_makeLong_3_2 11 rfl rfl)
theorem dJ24_makeLong_3_62 : decode cJ24_makeLong_3 62 = .ok (.lshl, 1) := dk_121 (dk_at dksJ24_makeLong_3_2 14 rfl rfl)
theorem dJ24_makeLong_3_63 : decode cJ24_makeLong_3 63 = .ok (.lor, 1) := dk_129 (dk_at dksJ24_makeLong_3_2 15 rfl rfl)
theorem dJ24_makeLong_3_64 : decode cJ24_makeLong_3 64 = .ok (.iload 5, 2) := dk_21 5 (dk_at dksJ24_makeLong_3_2 16 rfl rfl)
theorem dJ24_makeLong_3_66 : decode cJ24_makeLong_3 66 = .ok (.invokestatic 781, 3) := dk_184 3 13 (dk_at dksJ24_makeLong_3_2 18 rfl rfl)
theorem dJ24_makeLong_3_69 : decode cJ24_makeLong_3 69 = .ok (.bipush 56, 2) := dk_16 56 (dk_at dksJ24_makeLong_3_2 21 rfl rfl)
theorem dJ24_makeLong_3_71 : decode cJ24_makeLong_3 71 = .ok (.bipush 40, 2) := dk_16 40 (dk_at dksJ24_makeLong_3_3 0 rfl rfl)
theorem dJ24_makeLong_3_73 : decode cJ24_makeLong_3 73 = .ok (.invokestatic 784, 3) := dk_184 3 16 (dk_at dksJ24_makeLong_3_3 2 rfl rfl)
theorem dJ24_makeLong_3_76 : decode cJ24_makeLong_3 76 = .ok (.lshl, 1) := dk_121 (dk_at dksJ24_makeLong_3_3 5 rfl rfl)
theorem dJ24_makeLong_3_77 : decode cJ24_makeLong_3 77 = .ok (.lor, 1) := dk_129 (dk_at dksJ24_makeLong_3_3 6 rfl rfl)
theorem dJ24_makeLong_3_78 : decode cJ24_makeLong_3 78 = .ok (.iload 6, 2) := dk_21 6 (dk_at dksJ24_makeLong_3_3 7 rfl rfl)
theorem dJ24_makeLong_3_80 : decode cJ24_makeLong_3 80 = .ok (.invokestatic 781, 3) := dk_184 3 13 (dk_at dksJ24_makeLong_3_3 9 rfl rfl)
theorem dJ24_makeLong_3_83 : decode cJ24_makeLong_3 83 = .ok (.bipush 56, 2) := dk_16 56 (dk_at dksJ24_makeLong_3_3 12 rfl rfl)
theorem dJ24_makeLong_3_85 : decode cJ24_makeLong_3 85 = .ok (.bipush 48, 2) := dk_16 48 (dk_at dksJ24_makeLong_3_3 14 rfl rfl)
theorem dJ24_makeLong_3_87 : decode cJ24_makeLong_3 87 = .ok (.invokestatic 784, 3) := dk_184 3 16 (dk_at dksJ24_makeLong_3_3 16 rfl rfl)
theorem dJ24_makeLong_3_90 : decode cJ24_makeLong_3 90 = .ok (.lshl, 1) := dk_121 (dk_at dksJ24_makeLong_3_3 19 rfl rfl)
theorem dJ24_makeLong_3_91 : decode cJ24_makeLong_3 91 = .ok (.lor, 1) := dk_129 (dk_at dksJ24_makeLong_3_3 20 rfl rfl)
theorem dJ24_makeLong_3_92 : decode cJ24_makeLong_3 92 = .ok (.iload 7, 2) := dk_21 7 (dk_at dksJ24_makeLong_3_3 21 rfl rfl)
theorem dJ24_makeLong_3_94 : decode cJ24_makeLong_3 94 = .ok (.invokestatic 781, 3) := dk_184 3 13 (dk_at dksJ24_makeLong_3_4 0 rfl rfl)
theorem dJ24_makeLong_3_97 : decode cJ24_makeLong_3 97 = .ok (.bipush 56, 2) := dk_16 56 (dk_at dksJ24_makeLong_3_4 3 rfl rfl)
theorem dJ24_makeLong_3_99 : decode cJ24_makeLong_3 99 = .ok (.bipush 56, 2) := dk_16 56 (dk_at dksJ24_makeLong_3_4 5 rfl rfl)
theorem dJ24_makeLong_3_101 : decode cJ24_makeLong_3 101 = .ok (.invokestatic 784, 3) := dk_184 3 16 (dk_at dksJ24_makeLong_3_4 7 rfl rfl)
theorem dJ24_makeLong_3_104 : decode cJ24_makeLong_3 104 = .ok (.lshl, 1) := dk_121 (dk_at dksJ24_makeLong_3_4 10 rfl rfl)
theorem dJ24_makeLong_3_105 : decode cJ24_makeLong_3 105 = .ok (.lor, 1) := dk_129 (dk_at dksJ24_makeLong_3_4 11 rfl rfl)
theorem dJ24_makeLong_3_106 : decode cJ24_makeLong_3 106 = .ok (.lreturn, 1) := dk_173 (dk_at dksJ24_makeLong_3_4 12 rfl rfl)
abbrev cJ24_toUnsignedLong_3 : ByteArray := prog_92_method_368_code
def yJ24_toUnsignedLong_3 : MethodName := ⟨RJ24, "toUnsignedLong", "(B)J"⟩
def dkwJ24_toUnsignedLong_3_0 : List UInt8 := [26, 133, 20, 3, 40, 127, 173]
abbrev dktJ24_toUnsignedLong_3_0 : List UInt8 := dkwJ24_toUnsignedLong_3_0 ++ []
theorem dksJ24_toUnsignedLong_3_0 : cJ24_toUnsignedLong_3.data.toList.drop 0 = dktJ24_toUnsignedLong_3_0 := by decide +kernel
theorem dJ24_toUnsignedLong_3_0 : decode cJ24_toUnsignedLong_3 0 = .ok (.iload_n 0, 1) := dk_26 (dk_at dksJ24_toUnsignedLong_3_0 0 rfl rfl)
theorem dJ24_toUnsignedLong_3_1 : decode cJ24_toUnsignedLong_3 1 = .ok (.i2l, 1) := dk_133 (dk_at dksJ24_toUnsignedLong_3_0 1 rfl rfl)
theorem dJ24_toUnsignedLong_3_2 : decode cJ24_toUnsignedLong_3 2 = .ok (.ldc2_w 808, 3) := dk_20 3 40 (dk_at dksJ24_toUnsignedLong_3_0 2 rfl rfl)
theorem dJ24_toUnsignedLong_3_5 : decode cJ24_toUnsignedLong_3 5 = .ok (.land, 1) := dk_127 (dk_at dksJ24_toUnsignedLong_3_0 5 rfl rfl)
theorem dJ24_toUnsignedLong_3_6 : decode cJ24_toUnsignedLong_3 6 = .ok (.lreturn, 1) := dk_173 (dk_at dksJ24_toUnsignedLong_3_0 6 rfl rfl)
abbrev cJ24_getIntUnaligned : ByteArray := prog_92_method_336_code
def yJ24_getIntUnaligned : MethodName := ⟨RJ24, "getIntUnaligned", "(Ljava/lang/Object;J)I"⟩
def dkwJ24_getIntUnaligned_3 : List UInt8 := [43, 32, 20, 1, 93, 97, 182, 0, 39, 184, 2, 211, 172]
abbrev dktJ24_getIntUnaligned_3 : List UInt8 := dkwJ24_getIntUnaligned_3 ++ []
def dkwJ24_getIntUnaligned_2 : List UInt8 := [43, 32, 182, 0, 39, 42, 43, 32, 10, 97, 182, 0, 39, 42, 43, 32, 20, 0, 203, 97, 182, 0, 39, 42]
abbrev dktJ24_getIntUnaligned_2 : List UInt8 := dkwJ24_getIntUnaligned_2 ++ dktJ24_getIntUnaligned_3
def dkwJ24_getIntUnaligned_1 : List UInt8 := [154, 0, 23, 42, 43, 32, 182, 0, 47, 42, 43, 32, 20, 0, 203, 97, 182, 0, 47, 184, 2, 207, 172, 42]
abbrev dktJ24_getIntUnaligned_1 : List UInt8 := dkwJ24_getIntUnaligned_1 ++ dktJ24_getIntUnaligned_2
def dkwJ24_getIntUnaligned_0 : List UInt8 := [32, 20, 1, 93, 127, 9, 148, 154, 0, 10, 42, 43, 32, 182, 0, 17, 172, 32, 10, 127, 9, 148]
abbrev dktJ24_getIntUnaligned_0 : List UInt8 := dkwJ24_getIntUnaligned_0 ++ dktJ24_getIntUnaligned_1
theorem dksJ24_getIntUnaligned_0 : cJ24_getIntUnaligned.data.toList.drop 0 = dktJ24_getIntUnaligned_0 := by decide +kernel
theorem dksJ24_getIntUnaligned_1 : cJ24_getIntUnaligned.data.toList.drop 22 = dktJ24_getIntUnaligned_1 := dk_seg dksJ24_getIntUnaligned_0 22 rfl rfl
theorem dksJ24_getIntUnaligned_2 : cJ24_getIntUnaligned.data.toList.drop 46 = dktJ24_getIntUnaligned_2 := dk_seg dksJ24_getIntUnaligned_1 24 rfl rfl
theorem dksJ24_getIntUnaligned_3 : cJ24_getIntUnaligned.data.toList.drop 70 = dktJ24_getIntUnaligned_3 := dk_seg dksJ24_getIntUnaligned_2 24 rfl rfl
theorem dJ24_getIntUnaligned_0 : decode cJ24_getIntUnaligned 0 = .ok (.lload_n 2, 1) := dk_32 (dk_at dksJ24_getIntUnaligned_0 0 rfl rfl)
theorem dJ24_getIntUnaligned_1 : decode cJ24_getIntUnaligned 1 = .ok (.ldc2_w 349, 3) := dk_20 1 93 (dk_at dksJ24_getIntUnaligned_0 1 rfl rfl)
theorem dJ24_getIntUnaligned_4 : decode cJ24_getIntUnaligned 4 = .ok (.land, 1) := dk_127 (dk_at dksJ24_getIntUnaligned_0 4 rfl rfl)
theorem dJ24_getIntUnaligned_5 : decode cJ24_getIntUnaligned 5 = .ok (.lconst 0, 1) := dk_9 (dk_at dksJ24_getIntUnaligned_0 5 rfl rfl)
theorem dJ24_getIntUnaligned_6 : decode cJ24_getIntUnaligned 6 = .ok (.lcmp, 1) := dk_148 (dk_at dksJ24_getIntUnaligned_0 6 rfl rfl)
theorem dJ24_getIntUnaligned_7 : decode cJ24_getIntUnaligned 7 = .ok (.ifCond .ne 10, 3) := dk_154 0 10 (dk_at dksJ24_getIntUnaligned_0 7 rfl rfl)
theorem dJ24_getIntUnaligned_10 : decode cJ24_getIntUnaligned 10 = .ok (.aload_n 0, 1) := dk_42 (dk_at dksJ24_getIntUnaligned_0 10 rfl rfl)
theorem dJ24_getIntUnaligned_11 : decode cJ24_getIntUnaligned 11 = .ok (.aload_n 1, 1) := dk_43 (dk_at dksJ24_getIntUnaligned_0 11 rfl rfl)
theorem dJ24_getIntUnaligned_12 : decode cJ24_getIntUnaligned 12 = .ok (.lload_n 2, 1) := dk_32 (dk_at dksJ24_getIntUnaligned_0 12 rfl rfl)
theorem dJ24_getIntUnaligned_13 : decode cJ24_getIntUnaligned 13 = .ok (.invokevirtual 17, 3) := dk_182 0 17 (dk_at dksJ24_getIntUnaligned_0 13 rfl rfl)
theorem dJ24_getIntUnaligned_16 : decode cJ24_getIntUnaligned 16 = .ok (.ireturn, 1) := dk_172 (dk_at dksJ24_getIntUnaligned_0 16 rfl rfl)
theorem dJ24_getIntUnaligned_17 : decode cJ24_getIntUnaligned 17 = .ok (.lload_n 2, 1) := dk_32 (dk_at dksJ24_getIntUnaligned_0 17 rfl rfl)
theorem dJ24_getIntUnaligned_18 : decode cJ24_getIntUnaligned 18 = .ok (.lconst 1, 1) := dk_10 (dk_at dksJ24_getIntUnaligned_0 18 rfl rfl)
theorem dJ24_getIntUnaligned_19 : decode cJ24_getIntUnaligned 19 = .ok (.land, 1) := dk_127 (dk_at dksJ24_getIntUnaligned_0 19 rfl rfl)
theorem dJ24_getIntUnaligned_20 : decode cJ24_getIntUnaligned 20 = .ok (.lconst 0, 1) := dk_9 (dk_at dksJ24_getIntUnaligned_0 20 rfl rfl)
theorem dJ24_getIntUnaligned_21 : decode cJ24_getIntUnaligned 21 = .ok (.lcmp, 1) := dk_148 (dk_at dksJ24_getIntUnaligned_0 21 rfl rfl)
theorem dJ24_getIntUnaligned_22 : decode cJ24_getIntUnaligned 22 = .ok (.ifCond .ne 23, 3) := dk_154 0 23 (dk_at dksJ24_getIntUnaligned_1 0 rfl rfl)
theorem dJ24_getIntUnaligned_25 : decode cJ24_getIntUnaligned 25 = .ok (.aload_n 0, 1) := dk_42 (dk_at dksJ24_getIntUnaligned_1 3 rfl rfl)
theorem dJ24_getIntUnaligned_26 : decode cJ24_getIntUnaligned 26 = .ok (.aload_n 1, 1) := dk_43 (dk_at dksJ24_getIntUnaligned_1 4 rfl rfl)
theorem dJ24_getIntUnaligned_27 : decode cJ24_getIntUnaligned 27 = .ok (.lload_n 2, 1) := dk_32 (dk_at dksJ24_getIntUnaligned_1 5 rfl rfl)
theorem dJ24_getIntUnaligned_28 : decode cJ24_getIntUnaligned 28 = .ok (.invokevirtual 47, 3) := dk_182 0 47 (dk_at dksJ24_getIntUnaligned_1 6 rfl rfl)
theorem dJ24_getIntUnaligned_31 : decode cJ24_getIntUnaligned 31 = .ok (.aload_n 0, 1) := dk_42 (dk_at dksJ24_getIntUnaligned_1 9 rfl rfl)
theorem dJ24_getIntUnaligned_32 : decode cJ24_getIntUnaligned 32 = .ok (.aload_n 1, 1) := dk_43 (dk_at dksJ24_getIntUnaligned_1 10 rfl rfl)
theorem dJ24_getIntUnaligned_33 : decode cJ24_getIntUnaligned 33 = .ok (.lload_n 2, 1) := dk_32 (dk_at dksJ24_getIntUnaligned_1 11 rfl rfl)
theorem dJ24_getIntUnaligned_34 : decode cJ24_getIntUnaligned 34 = .ok (.ldc2_w 203, 3) := dk_20 0 203 (dk_at dksJ24_getIntUnaligned_1 12 rfl rfl)
theorem dJ24_getIntUnaligned_37 : decode cJ24_getIntUnaligned 37 = .ok (.ladd, 1) := dk_97 (dk_at dksJ24_getIntUnaligned_1 15 rfl rfl)
theorem dJ24_getIntUnaligned_38 : decode cJ24_getIntUnaligned 38 = .ok (.invokevirtual 47, 3) := dk_182 0 47 (dk_at dksJ24_getIntUnaligned_1 16 rfl rfl)
theorem dJ24_getIntUnaligned_41 : decode cJ24_getIntUnaligned 41 = .ok (.invokestatic 719, 3) := dk_184 2 207 (dk_at dksJ24_getIntUnaligned_1 19 rfl rfl)
theorem dJ24_getIntUnaligned_44 : decode cJ24_getIntUnaligned 44 = .ok (.ireturn, 1) := dk_172 (dk_at dksJ24_getIntUnaligned_1 22 rfl rfl)
theorem dJ24_getIntUnaligned_45 : decode cJ24_getIntUnaligned 45 = .ok (.aload_n 0, 1) := dk_42 (dk_at dksJ24_getIntUnaligned_1 23 rfl rfl)
theorem dJ24_getIntUnaligned_46 : decode cJ24_getIntUnaligned 46 = .ok (.aload_n 1, 1) := dk_43 (dk_at dksJ24_getIntUnaligned_2 0 rfl rfl)
theorem dJ24_getIntUnaligned_47 : decode cJ24_getIntUnaligned 47 = .ok (.lload_n 2, 1) := dk_32 (dk_at dksJ24_getIntUnaligned_2 1 rfl rfl)
theorem dJ24_getIntUnaligned_48 : decode cJ24_getIntUnaligned 48 = .ok (.invokevirtual 39, 3) := dk_182 0 39 (dk_at dksJ24_getIntUnaligned_2 2 rfl rfl)
theorem dJ24_getIntUnaligned_51 : decode cJ24_getIntUnaligned 51 = .ok (.aload_n 0, 1) := dk_42 (dk_at dksJ24_getIntUnaligned_2 5 rfl rfl)
theorem dJ24_getIntUnaligned_52 : decode cJ24_getIntUnaligned 52 = .ok (.aload_n 1, 1) := dk_43 (dk_at dksJ24_getIntUnaligned_2 6 rfl rfl)
theorem dJ24_getIntUnaligned_53 : decode cJ24_getIntUnaligned 53 = .ok (.lload_n 2, 1) := dk_32 (dk_at dksJ24_getIntUnaligned_2 7 rfl rfl)
theorem dJ24_getIntUnaligned_54 : decode cJ24_getIntUnaligned 54 = .ok (.lconst 1, 1) := dk_10 (dk_at dksJ24_getIntUnaligned_2 8 rfl rfl)
theorem dJ24_getIntUnaligned_55 : decode cJ24_getIntUnaligned 55 = .ok (.ladd, 1) := dk_97 (dk_at dksJ24_getIntUnaligned_2 9 rfl rfl)
theorem dJ24_getIntUnaligned_56 : decode cJ24_getIntUnaligned 56 = .ok (.invokevirtual 39, 3) := dk_182 0 39 (dk_at dksJ24_getIntUnaligned_2 10 rfl rfl)
theorem dJ24_getIntUnaligned_59 : decode cJ24_getIntUnaligned 59 = .ok (.aload_n 0, 1) := dk_42 (dk_at dksJ24_getIntUnaligned_2 13 rfl rfl)
theorem dJ24_getIntUnaligned_60 : decode cJ24_getIntUnaligned 60 = .ok (.aload_n 1, 1) := dk_43 (dk_at dksJ24_getIntUnaligned_2 14 rfl rfl)
theorem dJ24_getIntUnaligned_61 : decode cJ24_getIntUnaligned 61 = .ok (.lload_n 2, 1) := dk_32 (dk_at dksJ24_getIntUnaligned_2 15 rfl rfl)
theorem dJ24_getIntUnaligned_62 : decode cJ24_getIntUnaligned 62 = .ok (.ldc2_w 203, 3) := dk_20 0 203 (dk_at dksJ24_getIntUnaligned_2 16 rfl rfl)
theorem dJ24_getIntUnaligned_65 : decode cJ24_getIntUnaligned 65 = .ok (.ladd, 1) := dk_97 (dk_at dksJ24_getIntUnaligned_2 19 rfl rfl)
theorem dJ24_getIntUnaligned_66 : decode cJ24_getIntUnaligned 66 = .ok (.invokevirtual 39, 3) := dk_182 0 39 (dk_at dksJ24_getIntUnaligned_2 20 rfl rfl)
theorem dJ24_getIntUnaligned_69 : decode cJ24_getIntUnaligned 69 = .ok (.aload_n 0, 1) := dk_42 (dk_at dksJ24_getIntUnaligned_2 23 rfl rfl)
theorem dJ24_getIntUnaligned_70 : decode cJ24_getIntUnaligned 70 = .ok (.aload_n 1, 1) := dk_43 (dk_at dksJ24_getIntUnaligned_3 0 rfl rfl)
theorem dJ24_getIntUnaligned_71 : decode cJ24_getIntUnaligned 71 = .ok (.lload_n 2, 1) := dk_32 (dk_at dksJ24_getIntUnaligned_3 1 rfl rfl)
theorem dJ24_getIntUnaligned_72 : decode cJ24_getIntUnaligned 72 = .ok (.ldc2_w 349, 3) := dk_20 1 93 (dk_at dksJ24_getIntUnaligned_3 2 rfl rfl)
theorem dJ24_getIntUnaligned_75 : decode cJ24_getIntUnaligned 75 = .ok (.ladd, 1) := dk_97 (dk_at dksJ24_getIntUnaligned_3 5 rfl rfl)
theorem dJ24_getIntUnaligned_76 : decode cJ24_getIntUnaligned 76 = .ok (.invokevirtual 39, 3) := dk_182 0 39 (dk_at dksJ24_getIntUnaligned_3 6 rfl rfl)
theorem dJ24_getIntUnaligned_79 : decode cJ24_getIntUnaligned 79 = .ok (.invokestatic 723, 3) := dk_184 2 211 (dk_at dksJ24_getIntUnaligned_3 9 rfl rfl)
theorem dJ24_getIntUnaligned_82 : decode cJ24_getIntUnaligned 82 = .ok (.ireturn, 1) := dk_172 (dk_at dksJ24_getIntUnaligned_3 12 rfl rfl)
abbrev cJ24_makeInt : ByteArray := prog_92_method_354_code
def yJ24_makeInt : MethodName := ⟨RJ24, "makeInt", "(SS)I"⟩
def dkwJ24_makeInt_1 : List UInt8 := [172]
abbrev dktJ24_makeInt_1 : List UInt8 := dkwJ24_makeInt_1 ++ []
def dkwJ24_makeInt_0 : List UInt8 := [26, 184, 3, 24, 16, 16, 3, 184, 3, 16, 120, 27, 184, 3, 24, 16, 16, 16, 16, 184, 3, 16, 120, 128]
abbrev dktJ24_makeInt_0 : List UInt8 := dkwJ24_makeInt_0 ++ dktJ24_makeInt_1
theorem dksJ24_makeInt_0 : cJ24_makeInt.data.toList.drop 0 = dktJ24_makeInt_0 := by decide +kernel
theorem dksJ24_makeInt_1 : cJ24_makeInt.data.toList.drop 24 = dktJ24_makeInt_1 := dk_seg dksJ24_makeInt_0 24 rfl rfl
theorem dJ24_makeInt_0 : decode cJ24_makeInt 0 = .ok (.iload_n 0, 1) := dk_26 (dk_at dksJ24_makeInt_0 0 rfl rfl)
theorem dJ24_makeInt_1 : decode cJ24_makeInt 1 = .ok (.invokestatic 792, 3) := dk_184 3 24 (dk_at dksJ24_makeInt_0 1 rfl rfl)
theorem dJ24_makeInt_4 : decode cJ24_makeInt 4 = .ok (.bipush 16, 2) := dk_16 16 (dk_at dksJ24_makeInt_0 4 rfl rfl)
theorem dJ24_makeInt_6 : decode cJ24_makeInt 6 = .ok (.iconst 0, 1) := dk_3 (dk_at dksJ24_makeInt_0 6 rfl rfl)
theorem dJ24_makeInt_7 : decode cJ24_makeInt 7 = .ok (.invokestatic 784, 3) := dk_184 3 16 (dk_at dksJ24_makeInt_0 7 rfl rfl)
theorem dJ24_makeInt_10 : decode cJ24_makeInt 10 = .ok (.ishl, 1) := dk_120 (dk_at dksJ24_makeInt_0 10 rfl rfl)
theorem dJ24_makeInt_11 : decode cJ24_makeInt 11 = .ok (.iload_n 1, 1) := dk_27 (dk_at dksJ24_makeInt_0 11 rfl rfl)
theorem dJ24_makeInt_12 : decode cJ24_makeInt 12 = .ok (.invokestatic 792, 3) := dk_184 3 24 (dk_at dksJ24_makeInt_0 12 rfl rfl)
theorem dJ24_makeInt_15 : decode cJ24_makeInt 15 = .ok (.bipush 16, 2) := dk_16 16 (dk_at dksJ24_makeInt_0 15 rfl rfl)
theorem dJ24_makeInt_17 : decode cJ24_makeInt 17 = .ok (.bipush 16, 2) := dk_16 16 (dk_at dksJ24_makeInt_0 17 rfl rfl)
theorem dJ24_makeInt_19 : decode cJ24_makeInt 19 = .ok (.invokestatic 784, 3) := dk_184 3 16 (dk_at dksJ24_makeInt_0 19 rfl rfl)
theorem dJ24_makeInt_22 : decode cJ24_makeInt 22 = .ok (.ishl, 1) := dk_120 (dk_at dksJ24_makeInt_0 22 rfl rfl)
theorem dJ24_makeInt_23 : decode cJ24_makeInt 23 = .ok (.ior, 1) := dk_128 (dk_at dksJ24_makeInt_0 23 rfl rfl)
theorem dJ24_makeInt_24 : decode cJ24_makeInt 24 = .ok (.ireturn, 1) := dk_172 (dk_at dksJ24_makeInt_1 0 rfl rfl)
abbrev cJ24_toUnsignedInt : ByteArray := prog_92_method_367_code
def yJ24_toUnsignedInt : MethodName := ⟨RJ24, "toUnsignedInt", "(S)I"⟩
def dkwJ24_toUnsignedInt_0 : List UInt8 := [26, 19, 1, 118, 126, 172]
abbrev dktJ24_toUnsignedInt_0 : List UInt8 := dkwJ24_toUnsignedInt_0 ++ []
theorem dksJ24_toUnsignedInt_0 : cJ24_toUnsignedInt.data.toList.drop 0 = dktJ24_toUnsignedInt_0 := by decide +kernel
theorem dJ24_toUnsignedInt_0 : decode cJ24_toUnsignedInt 0 = .ok (.iload_n 0, 1) := dk_26 (dk_at dksJ24_toUnsignedInt_0 0 rfl rfl)
theorem dJ24_toUnsignedInt_1 : decode cJ24_toUnsignedInt 1 = .ok (.ldc_w 374, 3) := dk_19 1 118 (dk_at dksJ24_toUnsignedInt_0 1 rfl rfl)
theorem dJ24_toUnsignedInt_4 : decode cJ24_toUnsignedInt 4 = .ok (.iand, 1) := dk_126 (dk_at dksJ24_toUnsignedInt_0 4 rfl rfl)
theorem dJ24_toUnsignedInt_5 : decode cJ24_toUnsignedInt 5 = .ok (.ireturn, 1) := dk_172 (dk_at dksJ24_toUnsignedInt_0 5 rfl rfl)
abbrev cJ24_makeInt_2 : ByteArray := prog_92_method_355_code
def yJ24_makeInt_2 : MethodName := ⟨RJ24, "makeInt", "(BBBB)I"⟩
def dkwJ24_makeInt_2_2 : List UInt8 := [120, 128, 172]
abbrev dktJ24_makeInt_2_2 : List UInt8 := dkwJ24_makeInt_2_2 ++ []
def dkwJ24_makeInt_2_1 : List UInt8 := [28, 184, 3, 28, 16, 24, 16, 16, 184, 3, 16, 120, 128, 29, 184, 3, 28, 16, 24, 16, 24, 184, 3, 16]
abbrev dktJ24_makeInt_2_1 : List UInt8 := dkwJ24_makeInt_2_1 ++ dktJ24_makeInt_2_2
def dkwJ24_makeInt_2_0 : List UInt8 := [26, 184, 3, 28, 16, 24, 3, 184, 3, 16, 120, 27, 184, 3, 28, 16, 24, 16, 8, 184, 3, 16, 120, 128]
abbrev dktJ24_makeInt_2_0 : List UInt8 := dkwJ24_makeInt_2_0 ++ dktJ24_makeInt_2_1
theorem dksJ24_makeInt_2_0 : cJ24_makeInt_2.data.toList.drop 0 = dktJ24_makeInt_2_0 := by decide +kernel
theorem dksJ24_makeInt_2_1 : cJ24_makeInt_2.data.toList.drop 24 = dktJ24_makeInt_2_1 := dk_seg dksJ24_makeInt_2_0 24 rfl rfl
theorem dksJ24_makeInt_2_2 : cJ24_makeInt_2.data.toList.drop 48 = dktJ24_makeInt_2_2 := dk_seg dksJ24_makeInt_2_1 24 rfl rfl
theorem dJ24_makeInt_2_0 : decode cJ24_makeInt_2 0 = .ok (.iload_n 0, 1) := dk_26 (dk_at dksJ24_makeInt_2_0 0 rfl rfl)
theorem dJ24_makeInt_2_1 : decode cJ24_makeInt_2 1 = .ok (.invokestatic 796, 3) := dk_184 3 28 (dk_at dksJ24_makeInt_2_0 1 rfl rfl)
theorem dJ24_makeInt_2_4 : decode cJ24_makeInt_2 4 = .ok (.bipush 24, 2) := dk_16 24 (dk_at dksJ24_makeInt_2_0 4 rfl rfl)
theorem dJ24_makeInt_2_6 : decode cJ24_makeInt_2 6 = .ok (.iconst 0, 1) := dk_3 (dk_at dksJ24_makeInt_2_0 6 rfl rfl)
theorem dJ24_makeInt_2_7 : decode cJ24_makeInt_2 7 = .ok (.invokestatic 784, 3) := dk_184 3 16 (dk_at dksJ24_makeInt_2_0 7 rfl rfl)
theorem dJ24_makeInt_2_10 : decode cJ24_makeInt_2 10 = .ok (.ishl, 1) := dk_120 (dk_at dksJ24_makeInt_2_0 10 rfl rfl)
theorem dJ24_makeInt_2_11 : decode cJ24_makeInt_2 11 = .ok (.iload_n 1, 1) := dk_27 (dk_at dksJ24_makeInt_2_0 11 rfl rfl)
theorem dJ24_makeInt_2_12 : decode cJ24_makeInt_2 12 = .ok (.invokestatic 796, 3) := dk_184 3 28 (dk_at dksJ24_makeInt_2_0 12 rfl rfl)
theorem dJ24_makeInt_2_15 : decode cJ24_makeInt_2 15 = .ok (.bipush 24, 2) := dk_16 24 (dk_at dksJ24_makeInt_2_0 15 rfl rfl)
theorem dJ24_makeInt_2_17 : decode cJ24_makeInt_2 17 = .ok (.bipush 8, 2) := dk_16 8 (dk_at dksJ24_makeInt_2_0 17 rfl rfl)
theorem dJ24_makeInt_2_19 : decode cJ24_makeInt_2 19 = .ok (.invokestatic 784, 3) := dk_184 3 16 (dk_at dksJ24_makeInt_2_0 19 rfl rfl)
theorem dJ24_makeInt_2_22 : decode cJ24_makeInt_2 22 = .ok (.ishl, 1) := dk_120 (dk_at dksJ24_makeInt_2_0 22 rfl rfl)
theorem dJ24_makeInt_2_23 : decode cJ24_makeInt_2 23 = .ok (.ior, 1) := dk_128 (dk_at dksJ24_makeInt_2_0 23 rfl rfl)
theorem dJ24_makeInt_2_24 : decode cJ24_makeInt_2 24 = .ok (.iload_n 2, 1) := dk_28 (dk_at dksJ24_makeInt_2_1 0 rfl rfl)
theorem dJ24_makeInt_2_25 : decode cJ24_makeInt_2 25 = .ok (.invokestatic 796, 3) := dk_184 3 28 (dk_at dksJ24_makeInt_2_1 1 rfl rfl)
theorem dJ24_makeInt_2_28 : decode cJ24_makeInt_2 28 = .ok (.bipush 24, 2) := dk_16 24 (dk_at dksJ24_makeInt_2_1 4 rfl rfl)
theorem dJ24_makeInt_2_30 : decode cJ24_makeInt_2 30 = .ok (.bipush 16, 2) := dk_16 16 (dk_at dksJ24_makeInt_2_1 6 rfl rfl)
theorem dJ24_makeInt_2_32 : decode cJ24_makeInt_2 32 = .ok (.invokestatic 784, 3) := dk_184 3 16 (dk_at dksJ24_makeInt_2_1 8 rfl rfl)
theorem dJ24_makeInt_2_35 : decode cJ24_makeInt_2 35 = .ok (.ishl, 1) := dk_120 (dk_at dksJ24_makeInt_2_1 11 rfl rfl)
theorem dJ24_makeInt_2_36 : decode cJ24_makeInt_2 36 = .ok (.ior, 1) := dk_128 (dk_at dksJ24_makeInt_2_1 12 rfl rfl)
theorem dJ24_makeInt_2_37 : decode cJ24_makeInt_2 37 = .ok (.iload_n 3, 1) := dk_29 (dk_at dksJ24_makeInt_2_1 13 rfl rfl)
theorem dJ24_makeInt_2_38 : decode cJ24_makeInt_2 38 = .ok (.invokestatic 796, 3) := dk_184 3 28 (dk_at dksJ24_makeInt_2_1 14 rfl rfl)
theorem dJ24_makeInt_2_41 : decode cJ24_makeInt_2 41 = .ok (.bipush 24, 2) := dk_16 24 (dk_at dksJ24_makeInt_2_1 17 rfl rfl)
theorem dJ24_makeInt_2_43 : decode cJ24_makeInt_2 43 = .ok (.bipush 24, 2) := dk_16 24 (dk_at dksJ24_makeInt_2_1 19 rfl rfl)
theorem dJ24_makeInt_2_45 : decode cJ24_makeInt_2 45 = .ok (.invokestatic 784, 3) := dk_184 3 16 (dk_at dksJ24_makeInt_2_1 21 rfl rfl)
theorem dJ24_makeInt_2_48 : decode cJ24_makeInt_2 48 = .ok (.ishl, 1) := dk_120 (dk_at dksJ24_makeInt_2_2 0 rfl rfl)
theorem dJ24_makeInt_2_49 : decode cJ24_makeInt_2 49 = .ok (.ior, 1) := dk_128 (dk_at dksJ24_makeInt_2_2 1 rfl rfl)
theorem dJ24_makeInt_2_50 : decode cJ24_makeInt_2 50 = .ok (.ireturn, 1) := dk_172 (dk_at dksJ24_makeInt_2_2 2 rfl rfl)
abbrev cJ24_toUnsignedInt_2 : ByteArray := prog_92_method_366_code
def yJ24_toUnsignedInt_2 : MethodName := ⟨RJ24, "toUnsignedInt", "(B)I"⟩
def dkwJ24_toUnsignedInt_2_0 : List UInt8 := [26, 17, 0, 255, 126, 172]
abbrev dktJ24_toUnsignedInt_2_0 : List UInt8 := dkwJ24_toUnsignedInt_2_0 ++ []
theorem dksJ24_toUnsignedInt_2_0 : cJ24_toUnsignedInt_2.data.toList.drop 0 = dktJ24_toUnsignedInt_2_0 := by decide +kernel
theorem dJ24_toUnsignedInt_2_0 : decode cJ24_toUnsignedInt_2 0 = .ok (.iload_n 0, 1) := dk_26 (dk_at dksJ24_toUnsignedInt_2_0 0 rfl rfl)
theorem dJ24_toUnsignedInt_2_1 : decode cJ24_toUnsignedInt_2 1 = .ok (.sipush 255, 3) := dk_17 0 255 (dk_at dksJ24_toUnsignedInt_2_0 1 rfl rfl)
theorem dJ24_toUnsignedInt_2_4 : decode cJ24_toUnsignedInt_2 4 = .ok (.iand, 1) := dk_126 (dk_at dksJ24_toUnsignedInt_2_0 4 rfl rfl)
theorem dJ24_toUnsignedInt_2_5 : decode cJ24_toUnsignedInt_2 5 = .ok (.ireturn, 1) := dk_172 (dk_at dksJ24_toUnsignedInt_2_0 5 rfl rfl)
theorem q148 : (Jvm.Cond.initialized "jdk/internal/misc/Unsafe") ∈ lw_all := lw_g (lw_at lw_m1 37 rfl) rfl
theorem q853 : (Jvm.Cond.selects "jdk/internal/misc/Unsafe" ({ cls := "java/lang/Object", name := "getClass", desc := "()Ljava/lang/Class;" } : Jvm.MethodName) ({ cls := "java/lang/Object", name := "getClass", desc := "()Ljava/lang/Class;" } : Jvm.MethodName)) ∈ lw_all := lw_g (lw_at lw_m4 22 rfl) rfl
theorem q1136 : (Jvm.Cond.selects "jdk/internal/misc/Unsafe" ({ cls := "java/lang/Object", name := "hashCode", desc := "()I" } : Jvm.MethodName) ({ cls := "java/lang/Object", name := "hashCode", desc := "()I" } : Jvm.MethodName)) ∈ lw_all := lw_g (lw_at lw_m5 65 rfl) rfl
theorem q1195 : (Jvm.Cond.selects "jdk/internal/misc/Unsafe" ({ cls := "java/lang/Object", name := "equals", desc := "(Ljava/lang/Object;)Z" } : Jvm.MethodName) ({ cls := "java/lang/Object", name := "equals", desc := "(Ljava/lang/Object;)Z" } : Jvm.MethodName)) ∈ lw_all := lw_g (lw_at lw_m5 124 rfl) rfl
theorem q1340 : (Jvm.Cond.laysStatic "jdk/internal/misc/Unsafe" "ARRAY_BYTE_BASE_OFFSET" "I") ∈ lw_tbl := lw_at lw_m6 29 rfl
theorem q1351 : (Jvm.Cond.instanceMethod ({ cls := "jdk/internal/misc/Unsafe", name := "getLongUnaligned", desc := "(Ljava/lang/Object;J)J" } : Jvm.MethodName)) ∈ lw_all := lw_g (lw_at lw_m6 40 rfl) rfl
theorem q1352 : (Jvm.Cond.selects "jdk/internal/misc/Unsafe" ({ cls := "jdk/internal/misc/Unsafe", name := "getLongUnaligned", desc := "(Ljava/lang/Object;J)J" } : Jvm.MethodName) ({ cls := "jdk/internal/misc/Unsafe", name := "getLongUnaligned", desc := "(Ljava/lang/Object;J)J" } : Jvm.MethodName)) ∈ lw_all := lw_g (lw_at lw_m6 41 rfl) rfl
theorem q1353 : (Jvm.Cond.code ({ cls := "jdk/internal/misc/Unsafe", name := "getLongUnaligned", desc := "(Ljava/lang/Object;J)J" } : Jvm.MethodName) prog_92_method_334_code (4 : Nat) (Option.some Jvm.ClassFile.FieldType.long)) ∈ lw_all := lw_g (lw_at lw_m6 42 rfl) rfl
theorem q1354 : (Jvm.Cond.constantLong "jdk/internal/misc/Unsafe" (696 : Nat) (7 : Int64)) ∈ lw_all := lw_g (lw_at lw_m6 43 rfl) rfl
theorem q1355 : (Jvm.Cond.methodLink "jdk/internal/misc/Unsafe" (27 : Nat) ({ cls := "jdk/internal/misc/Unsafe", name := "getLong", desc := "(Ljava/lang/Object;J)J" } : Jvm.MethodName)) ∈ lw_all := lw_g (lw_at lw_m6 44 rfl) rfl
theorem q1356 : (Jvm.Cond.instanceMethod ({ cls := "jdk/internal/misc/Unsafe", name := "getLong", desc := "(Ljava/lang/Object;J)J" } : Jvm.MethodName)) ∈ lw_all := lw_g (lw_at lw_m6 45 rfl) rfl
theorem q1357 : (Jvm.Cond.selects "jdk/internal/misc/Unsafe" ({ cls := "jdk/internal/misc/Unsafe", name := "getLong", desc := "(Ljava/lang/Object;J)J" } : Jvm.MethodName) ({ cls := "jdk/internal/misc/Unsafe", name := "getLong", desc := "(Ljava/lang/Object;J)J" } : Jvm.MethodName)) ∈ lw_all := lw_g (lw_at lw_m6 46 rfl) rfl
theorem q1358 : (Jvm.Cond.native ({ cls := "jdk/internal/misc/Unsafe", name := "getLong", desc := "(Ljava/lang/Object;J)J" } : Jvm.MethodName)) ∈ lw_all := lw_g (lw_at lw_m6 47 rfl) rfl
theorem q1359 : (Jvm.Cond.constantLong "jdk/internal/misc/Unsafe" (349 : Nat) (3 : Int64)) ∈ lw_all := lw_g (lw_at lw_m6 48 rfl) rfl
theorem q1360 : (Jvm.Cond.methodLink "jdk/internal/misc/Unsafe" (17 : Nat) ({ cls := "jdk/internal/misc/Unsafe", name := "getInt", desc := "(Ljava/lang/Object;J)I" } : Jvm.MethodName)) ∈ lw_all := lw_g (lw_at lw_m6 49 rfl) rfl
theorem q1361 : (Jvm.Cond.instanceMethod ({ cls := "jdk/internal/misc/Unsafe", name := "getInt", desc := "(Ljava/lang/Object;J)I" } : Jvm.MethodName)) ∈ lw_all := lw_g (lw_at lw_m6 50 rfl) rfl
theorem q1362 : (Jvm.Cond.selects "jdk/internal/misc/Unsafe" ({ cls := "jdk/internal/misc/Unsafe", name := "getInt", desc := "(Ljava/lang/Object;J)I" } : Jvm.MethodName) ({ cls := "jdk/internal/misc/Unsafe", name := "getInt", desc := "(Ljava/lang/Object;J)I" } : Jvm.MethodName)) ∈ lw_all := lw_g (lw_at lw_m6 51 rfl) rfl
theorem q1363 : (Jvm.Cond.native ({ cls := "jdk/internal/misc/Unsafe", name := "getInt", desc := "(Ljava/lang/Object;J)I" } : Jvm.MethodName)) ∈ lw_all := lw_g (lw_at lw_m6 52 rfl) rfl
theorem q1364 : (Jvm.Cond.constantLong "jdk/internal/misc/Unsafe" (205 : Nat) (4 : Int64)) ∈ lw_all := lw_g (lw_at lw_m6 53 rfl) rfl
theorem q1365 : (Jvm.Cond.methodLink "jdk/internal/misc/Unsafe" (698 : Nat) ({ cls := "jdk/internal/misc/Unsafe", name := "makeLong", desc := "(II)J" } : Jvm.MethodName)) ∈ lw_all := lw_g (lw_at lw_m6 54 rfl) rfl
theorem q1366 : (Jvm.Cond.static ({ cls := "jdk/internal/misc/Unsafe", name := "makeLong", desc := "(II)J" } : Jvm.MethodName)) ∈ lw_all := lw_g (lw_at lw_m6 55 rfl) rfl
theorem q1367 : (Jvm.Cond.code ({ cls := "jdk/internal/misc/Unsafe", name := "makeLong", desc := "(II)J" } : Jvm.MethodName) prog_92_method_353_code (2 : Nat) (Option.some Jvm.ClassFile.FieldType.long)) ∈ lw_all := lw_g (lw_at lw_m6 56 rfl) rfl
theorem q1368 : (Jvm.Cond.methodLink "jdk/internal/misc/Unsafe" (791 : Nat) ({ cls := "jdk/internal/misc/Unsafe", name := "toUnsignedLong", desc := "(I)J" } : Jvm.MethodName)) ∈ lw_all := lw_g (lw_at lw_m6 57 rfl) rfl
theorem q1369 : (Jvm.Cond.static ({ cls := "jdk/internal/misc/Unsafe", name := "toUnsignedLong", desc := "(I)J" } : Jvm.MethodName)) ∈ lw_all := lw_g (lw_at lw_m6 58 rfl) rfl
theorem q1370 : (Jvm.Cond.code ({ cls := "jdk/internal/misc/Unsafe", name := "toUnsignedLong", desc := "(I)J" } : Jvm.MethodName) prog_92_method_370_code (1 : Nat) (Option.some Jvm.ClassFile.FieldType.long)) ∈ lw_all := lw_g (lw_at lw_m6 59 rfl) rfl
theorem q1371 : (Jvm.Cond.constantLong "jdk/internal/misc/Unsafe" (812 : Nat) (4294967295 : Int64)) ∈ lw_all := lw_g (lw_at lw_m6 60 rfl) rfl
theorem q1372 : (Jvm.Cond.methodLink "jdk/internal/misc/Unsafe" (784 : Nat) ({ cls := "jdk/internal/misc/Unsafe", name := "pickPos", desc := "(II)I" } : Jvm.MethodName)) ∈ lw_all := lw_g (lw_at lw_m6 61 rfl) rfl
theorem q1373 : (Jvm.Cond.static ({ cls := "jdk/internal/misc/Unsafe", name := "pickPos", desc := "(II)I" } : Jvm.MethodName)) ∈ lw_all := lw_g (lw_at lw_m6 62 rfl) rfl
theorem q1374 : (Jvm.Cond.code ({ cls := "jdk/internal/misc/Unsafe", name := "pickPos", desc := "(II)I" } : Jvm.MethodName) prog_92_method_350_code (2 : Nat) (Option.some Jvm.ClassFile.FieldType.int)) ∈ lw_all := lw_g (lw_at lw_m6 63 rfl) rfl
theorem q1375 : (Jvm.Cond.fieldLink "jdk/internal/misc/Unsafe" (351 : Nat) "jdk/internal/misc/UnsafeConstants" "BIG_ENDIAN" "Z") ∈ lw_all := lw_g (lw_at lw_m6 64 rfl) rfl
theorem q1377 : (Jvm.Cond.methodLink "jdk/internal/misc/Unsafe" (47 : Nat) ({ cls := "jdk/internal/misc/Unsafe", name := "getShort", desc := "(Ljava/lang/Object;J)S" } : Jvm.MethodName)) ∈ lw_all := lw_g (lw_at lw_m6 66 rfl) rfl
theorem q1378 : (Jvm.Cond.instanceMethod ({ cls := "jdk/internal/misc/Unsafe", name := "getShort", desc := "(Ljava/lang/Object;J)S" } : Jvm.MethodName)) ∈ lw_all := lw_g (lw_at lw_m6 67 rfl) rfl
theorem q1379 : (Jvm.Cond.selects "jdk/internal/misc/Unsafe" ({ cls := "jdk/internal/misc/Unsafe", name := "getShort", desc := "(Ljava/lang/Object;J)S" } : Jvm.MethodName) ({ cls := "jdk/internal/misc/Unsafe", name := "getShort", desc := "(Ljava/lang/Object;J)S" } : Jvm.MethodName)) ∈ lw_all := lw_g (lw_at lw_m6 68 rfl) rfl
theorem q1380 : (Jvm.Cond.native ({ cls := "jdk/internal/misc/Unsafe", name := "getShort", desc := "(Ljava/lang/Object;J)S" } : Jvm.MethodName)) ∈ lw_all := lw_g (lw_at lw_m6 69 rfl) rfl
theorem q1381 : (Jvm.Cond.constantLong "jdk/internal/misc/Unsafe" (203 : Nat) (2 : Int64)) ∈ lw_all := lw_g (lw_at lw_m6 70 rfl) rfl
theorem q1382 : (Jvm.Cond.constantLong "jdk/internal/misc/Unsafe" (702 : Nat) (6 : Int64)) ∈ lw_all := lw_g (lw_at lw_m6 71 rfl) rfl
theorem q1383 : (Jvm.Cond.methodLink "jdk/internal/misc/Unsafe" (704 : Nat) ({ cls := "jdk/internal/misc/Unsafe", name := "makeLong", desc := "(SSSS)J" } : Jvm.MethodName)) ∈ lw_all := lw_g (lw_at lw_m6 72 rfl) rfl
theorem q1384 : (Jvm.Cond.static ({ cls := "jdk/internal/misc/Unsafe", name := "makeLong", desc := "(SSSS)J" } : Jvm.MethodName)) ∈ lw_all := lw_g (lw_at lw_m6 73 rfl) rfl
theorem q1385 : (Jvm.Cond.code ({ cls := "jdk/internal/misc/Unsafe", name := "makeLong", desc := "(SSSS)J" } : Jvm.MethodName) prog_92_method_352_code (4 : Nat) (Option.some Jvm.ClassFile.FieldType.long)) ∈ lw_all := lw_g (lw_at lw_m6 74 rfl) rfl
theorem q1386 : (Jvm.Cond.methodLink "jdk/internal/misc/Unsafe" (788 : Nat) ({ cls := "jdk/internal/misc/Unsafe", name := "toUnsignedLong", desc := "(S)J" } : Jvm.MethodName)) ∈ lw_all := lw_g (lw_at lw_m6 75 rfl) rfl
theorem q1387 : (Jvm.Cond.static ({ cls := "jdk/internal/misc/Unsafe", name := "toUnsignedLong", desc := "(S)J" } : Jvm.MethodName)) ∈ lw_all := lw_g (lw_at lw_m6 76 rfl) rfl
theorem q1388 : (Jvm.Cond.code ({ cls := "jdk/internal/misc/Unsafe", name := "toUnsignedLong", desc := "(S)J" } : Jvm.MethodName) prog_92_method_369_code (1 : Nat) (Option.some Jvm.ClassFile.FieldType.long)) ∈ lw_all := lw_g (lw_at lw_m6 77 rfl) rfl
theorem q1389 : (Jvm.Cond.constantLong "jdk/internal/misc/Unsafe" (810 : Nat) (65535 : Int64)) ∈ lw_all := lw_g (lw_at lw_m6 78 rfl) rfl
theorem q1390 : (Jvm.Cond.methodLink "jdk/internal/misc/Unsafe" (39 : Nat) ({ cls := "jdk/internal/misc/Unsafe", name := "getByte", desc := "(Ljava/lang/Object;J)B" } : Jvm.MethodName)) ∈ lw_all := lw_g (lw_at lw_m6 79 rfl) rfl
theorem q1391 : (Jvm.Cond.instanceMethod ({ cls := "jdk/internal/misc/Unsafe", name := "getByte", desc := "(Ljava/lang/Object;J)B" } : Jvm.MethodName)) ∈ lw_all := lw_g (lw_at lw_m6 80 rfl) rfl
theorem q1392 : (Jvm.Cond.selects "jdk/internal/misc/Unsafe" ({ cls := "jdk/internal/misc/Unsafe", name := "getByte", desc := "(Ljava/lang/Object;J)B" } : Jvm.MethodName) ({ cls := "jdk/internal/misc/Unsafe", name := "getByte", desc := "(Ljava/lang/Object;J)B" } : Jvm.MethodName)) ∈ lw_all := lw_g (lw_at lw_m6 81 rfl) rfl
theorem q1393 : (Jvm.Cond.native ({ cls := "jdk/internal/misc/Unsafe", name := "getByte", desc := "(Ljava/lang/Object;J)B" } : Jvm.MethodName)) ∈ lw_all := lw_g (lw_at lw_m6 82 rfl) rfl
theorem q1394 : (Jvm.Cond.constantLong "jdk/internal/misc/Unsafe" (707 : Nat) (5 : Int64)) ∈ lw_all := lw_g (lw_at lw_m6 83 rfl) rfl
theorem q1395 : (Jvm.Cond.methodLink "jdk/internal/misc/Unsafe" (709 : Nat) ({ cls := "jdk/internal/misc/Unsafe", name := "makeLong", desc := "(BBBBBBBB)J" } : Jvm.MethodName)) ∈ lw_all := lw_g (lw_at lw_m6 84 rfl) rfl
theorem q1396 : (Jvm.Cond.static ({ cls := "jdk/internal/misc/Unsafe", name := "makeLong", desc := "(BBBBBBBB)J" } : Jvm.MethodName)) ∈ lw_all := lw_g (lw_at lw_m6 85 rfl) rfl
theorem q1397 : (Jvm.Cond.code ({ cls := "jdk/internal/misc/Unsafe", name := "makeLong", desc := "(BBBBBBBB)J" } : Jvm.MethodName) prog_92_method_351_code (8 : Nat) (Option.some Jvm.ClassFile.FieldType.long)) ∈ lw_all := lw_g (lw_at lw_m6 86 rfl) rfl
theorem q1398 : (Jvm.Cond.methodLink "jdk/internal/misc/Unsafe" (781 : Nat) ({ cls := "jdk/internal/misc/Unsafe", name := "toUnsignedLong", desc := "(B)J" } : Jvm.MethodName)) ∈ lw_all := lw_g (lw_at lw_m6 87 rfl) rfl
theorem q1399 : (Jvm.Cond.static ({ cls := "jdk/internal/misc/Unsafe", name := "toUnsignedLong", desc := "(B)J" } : Jvm.MethodName)) ∈ lw_all := lw_g (lw_at lw_m6 88 rfl) rfl
theorem q1400 : (Jvm.Cond.code ({ cls := "jdk/internal/misc/Unsafe", name := "toUnsignedLong", desc := "(B)J" } : Jvm.MethodName) prog_92_method_368_code (1 : Nat) (Option.some Jvm.ClassFile.FieldType.long)) ∈ lw_all := lw_g (lw_at lw_m6 89 rfl) rfl
theorem q1401 : (Jvm.Cond.constantLong "jdk/internal/misc/Unsafe" (808 : Nat) (255 : Int64)) ∈ lw_all := lw_g (lw_at lw_m6 90 rfl) rfl
theorem q1422 : (Jvm.Cond.instanceMethod ({ cls := "jdk/internal/misc/Unsafe", name := "getIntUnaligned", desc := "(Ljava/lang/Object;J)I" } : Jvm.MethodName)) ∈ lw_all := lw_g (lw_at lw_m6 111 rfl) rfl
theorem q1423 : (Jvm.Cond.selects "jdk/internal/misc/Unsafe" ({ cls := "jdk/internal/misc/Unsafe", name := "getIntUnaligned", desc := "(Ljava/lang/Object;J)I" } : Jvm.MethodName) ({ cls := "jdk/internal/misc/Unsafe", name := "getIntUnaligned", desc := "(Ljava/lang/Object;J)I" } : Jvm.MethodName)) ∈ lw_all := lw_g (lw_at lw_m6 112 rfl) rfl
theorem q1424 : (Jvm.Cond.code ({ cls := "jdk/internal/misc/Unsafe", name := "getIntUnaligned", desc := "(Ljava/lang/Object;J)I" } : Jvm.MethodName) prog_92_method_336_code (4 : Nat) (Option.some Jvm.ClassFile.FieldType.int)) ∈ lw_all := lw_g (lw_at lw_m6 113 rfl) rfl
theorem q1425 : (Jvm.Cond.methodLink "jdk/internal/misc/Unsafe" (719 : Nat) ({ cls := "jdk/internal/misc/Unsafe", name := "makeInt", desc := "(SS)I" } : Jvm.MethodName)) ∈ lw_all := lw_g (lw_at lw_m6 114 rfl) rfl
theorem q1426 : (Jvm.Cond.static ({ cls := "jdk/internal/misc/Unsafe", name := "makeInt", desc := "(SS)I" } : Jvm.MethodName)) ∈ lw_all := lw_g (lw_at lw_m6 115 rfl) rfl
theorem q1427 : (Jvm.Cond.code ({ cls := "jdk/internal/misc/Unsafe", name := "makeInt", desc := "(SS)I" } : Jvm.MethodName) prog_92_method_354_code (2 : Nat) (Option.some Jvm.ClassFile.FieldType.int)) ∈ lw_all := lw_g (lw_at lw_m6 116 rfl) rfl
theorem q1428 : (Jvm.Cond.methodLink "jdk/internal/misc/Unsafe" (792 : Nat) ({ cls := "jdk/internal/misc/Unsafe", name := "toUnsignedInt", desc := "(S)I" } : Jvm.MethodName)) ∈ lw_all := lw_g (lw_at lw_m6 117 rfl) rfl
theorem q1429 : (Jvm.Cond.static ({ cls := "jdk/internal/misc/Unsafe", name := "toUnsignedInt", desc := "(S)I" } : Jvm.MethodName)) ∈ lw_all := lw_g (lw_at lw_m6 118 rfl) rfl
theorem q1430 : (Jvm.Cond.code ({ cls := "jdk/internal/misc/Unsafe", name := "toUnsignedInt", desc := "(S)I" } : Jvm.MethodName) prog_92_method_367_code (1 : Nat) (Option.some Jvm.ClassFile.FieldType.int)) ∈ lw_all := lw_g (lw_at lw_m6 119 rfl) rfl
theorem q1431 : (Jvm.Cond.constant "jdk/internal/misc/Unsafe" (374 : Nat) (65535 : Int32)) ∈ lw_all := lw_g (lw_at lw_m6 120 rfl) rfl
theorem q1432 : (Jvm.Cond.methodLink "jdk/internal/misc/Unsafe" (723 : Nat) ({ cls := "jdk/internal/misc/Unsafe", name := "makeInt", desc := "(BBBB)I" } : Jvm.MethodName)) ∈ lw_all := lw_g (lw_at lw_m6 121 rfl) rfl
theorem q1433 : (Jvm.Cond.static ({ cls := "jdk/internal/misc/Unsafe", name := "makeInt", desc := "(BBBB)I" } : Jvm.MethodName)) ∈ lw_all := lw_g (lw_at lw_m6 122 rfl) rfl
theorem q1434 : (Jvm.Cond.code ({ cls := "jdk/internal/misc/Unsafe", name := "makeInt", desc := "(BBBB)I" } : Jvm.MethodName) prog_92_method_355_code (4 : Nat) (Option.some Jvm.ClassFile.FieldType.int)) ∈ lw_all := lw_g (lw_at lw_m6 123 rfl) rfl
theorem q1435 : (Jvm.Cond.methodLink "jdk/internal/misc/Unsafe" (796 : Nat) ({ cls := "jdk/internal/misc/Unsafe", name := "toUnsignedInt", desc := "(B)I" } : Jvm.MethodName)) ∈ lw_all := lw_g (lw_at lw_m6 124 rfl) rfl
theorem q1436 : (Jvm.Cond.static ({ cls := "jdk/internal/misc/Unsafe", name := "toUnsignedInt", desc := "(B)I" } : Jvm.MethodName)) ∈ lw_all := lw_g (lw_at lw_m6 125 rfl) rfl
theorem q1437 : (Jvm.Cond.code ({ cls := "jdk/internal/misc/Unsafe", name := "toUnsignedInt", desc := "(B)I" } : Jvm.MethodName) prog_92_method_366_code (1 : Nat) (Option.some Jvm.ClassFile.FieldType.int)) ∈ lw_all := lw_g (lw_at lw_m6 126 rfl) rfl
theorem q3345 : (Jvm.Cond.castable "jdk/internal/misc/Unsafe" "java/lang/Object") ∈ lw_tbl := lw_at lw_m14 114 rfl

/-! java/lang/Long -/
set_option maxRecDepth 100000
def RJ25 : String := "java/lang/Long"
abbrev cJ25_numberOfLeadingZeros : ByteArray := prog_59_method_48_code
def yJ25_numberOfLeadingZeros : MethodName := ⟨RJ25, "numberOfLeadingZeros", "(J)I"⟩
def dkwJ25_numberOfLeadingZeros_1 : List UInt8 := [184, 1, 52, 172]
abbrev dktJ25_numberOfLeadingZeros_1 : List UInt8 := dkwJ25_numberOfLeadingZeros_1 ++ []
def dkwJ25_numberOfLeadingZeros_0 : List UInt8 := [30, 16, 32, 125, 136, 61, 28, 154, 0, 14, 16, 32, 30, 136, 184, 1, 52, 96, 167, 0, 7, 28]
abbrev dktJ25_numberOfLeadingZeros_0 : List UInt8 := dkwJ25_numberOfLeadingZeros_0 ++ dktJ25_numberOfLeadingZeros_1
theorem dksJ25_numberOfLeadingZeros_0 : cJ25_numberOfLeadingZeros.data.toList.drop 0 = dktJ25_numberOfLeadingZeros_0 := by decide +kernel
theorem dksJ25_numberOfLeadingZeros_1 : cJ25_numberOfLeadingZeros.data.toList.drop 22 = dktJ25_numberOfLeadingZeros_1 := dk_seg dksJ25_numberOfLeadingZeros_0 22 rfl rfl
theorem dJ25_numberOfLeadingZeros_0 : decode cJ25_numberOfLeadingZeros 0 = .ok (.lload_n 0, 1) := dk_30 (dk_at dksJ25_numberOfLeadingZeros_0 0 rfl rfl)
theorem dJ25_numberOfLeadingZeros_1 : decode cJ25_numberOfLeadingZeros 1 = .ok (.bipush 32, 2) := dk_16 32 (dk_at dksJ25_numberOfLeadingZeros_0 1 rfl rfl)
theorem dJ25_numberOfLeadingZeros_3 : decode cJ25_numberOfLeadingZeros 3 = .ok (.lushr, 1) := dk_125 (dk_at dksJ25_numberOfLeadingZeros_0 3 rfl rfl)
theorem dJ25_numberOfLeadingZeros_4 : decode cJ25_numberOfLeadingZeros 4 = .ok (.l2i, 1) := dk_136 (dk_at dksJ25_numberOfLeadingZeros_0 4 rfl rfl)
theorem dJ25_numberOfLeadingZeros_5 : decode cJ25_numberOfLeadingZeros 5 = .ok (.istore_n 2, 1) := dk_61 (dk_at dksJ25_numberOfLeadingZeros_0 5 rfl rfl)
theorem dJ25_numberOfLeadingZeros_6 : decode cJ25_numberOfLeadingZeros 6 = .ok (.iload_n 2, 1) := dk_28 (dk_at dksJ25_numberOfLeadingZeros_0 6 rfl rfl)
theorem dJ25_numberOfLeadingZeros_7 : decode cJ25_numberOfLeadingZeros 7 = .ok (.ifCond .ne 14, 3) := dk_154 0 14 (dk_at dksJ25_numberOfLeadingZeros_0 7 rfl rfl)
theorem dJ25_numberOfLeadingZeros_10 : decode cJ25_numberOfLeadingZeros 10 = .ok (.bipush 32, 2) := dk_16 32 (dk_at dksJ25_numberOfLeadingZeros_0 10 rfl rfl)
theorem dJ25_numberOfLeadingZeros_12 : decode cJ25_numberOfLeadingZeros 12 = .ok (.lload_n 0, 1) := dk_30 (dk_at dksJ25_numberOfLeadingZeros_0 12 rfl rfl)
theorem dJ25_numberOfLeadingZeros_13 : decode cJ25_numberOfLeadingZeros 13 = .ok (.l2i, 1) := dk_136 (dk_at dksJ25_numberOfLeadingZeros_0 13 rfl rfl)
theorem dJ25_numberOfLeadingZeros_14 : decode cJ25_numberOfLeadingZeros 14 = .ok (.invokestatic 308, 3) := dk_184 1 52 (dk_at dksJ25_numberOfLeadingZeros_0 14 rfl rfl)
theorem dJ25_numberOfLeadingZeros_17 : decode cJ25_numberOfLeadingZeros 17 = .ok (.iadd, 1) := dk_96 (dk_at dksJ25_numberOfLeadingZeros_0 17 rfl rfl)
theorem dJ25_numberOfLeadingZeros_18 : decode cJ25_numberOfLeadingZeros 18 = .ok (.goto 7, 3) := dk_167 0 7 (dk_at dksJ25_numberOfLeadingZeros_0 18 rfl rfl)
theorem dJ25_numberOfLeadingZeros_21 : decode cJ25_numberOfLeadingZeros 21 = .ok (.iload_n 2, 1) := dk_28 (dk_at dksJ25_numberOfLeadingZeros_0 21 rfl rfl)
theorem dJ25_numberOfLeadingZeros_22 : decode cJ25_numberOfLeadingZeros 22 = .ok (.invokestatic 308, 3) := dk_184 1 52 (dk_at dksJ25_numberOfLeadingZeros_1 0 rfl rfl)
theorem dJ25_numberOfLeadingZeros_25 : decode cJ25_numberOfLeadingZeros 25 = .ok (.ireturn, 1) := dk_172 (dk_at dksJ25_numberOfLeadingZeros_1 3 rfl rfl)
abbrev cJ25_numberOfTrailingZeros : ByteArray := prog_59_method_49_code
def yJ25_numberOfTrailingZeros : MethodName := ⟨RJ25, "numberOfTrailingZeros", "(J)I"⟩
def dkwJ25_numberOfTrailingZeros_1 : List UInt8 := [184, 1, 55, 172]
abbrev dktJ25_numberOfTrailingZeros_1 : List UInt8 := dkwJ25_numberOfTrailingZeros_1 ++ []
def dkwJ25_numberOfTrailingZeros_0 : List UInt8 := [30, 136, 61, 28, 154, 0, 17, 16, 32, 30, 16, 32, 125, 136, 184, 1, 55, 96, 167, 0, 7, 28]
abbrev dktJ25_numberOfTrailingZeros_0 : List UInt8 := dkwJ25_numberOfTrailingZeros_0 ++ dktJ25_numberOfTrailingZeros_1
theorem dksJ25_numberOfTrailingZeros_0 : cJ25_numberOfTrailingZeros.data.toList.drop 0 = dktJ25_numberOfTrailingZeros_0 := by decide +kernel
theorem dksJ25_numberOfTrailingZeros_1 : cJ25_numberOfTrailingZeros.data.toList.drop 22 = dktJ25_numberOfTrailingZeros_1 := dk_seg dksJ25_numberOfTrailingZeros_0 22 rfl rfl
theorem dJ25_numberOfTrailingZeros_0 : decode cJ25_numberOfTrailingZeros 0 = .ok (.lload_n 0, 1) := dk_30 (dk_at dksJ25_numberOfTrailingZeros_0 0 rfl rfl)
theorem dJ25_numberOfTrailingZeros_1 : decode cJ25_numberOfTrailingZeros 1 = .ok (.l2i, 1) := dk_136 (dk_at dksJ25_numberOfTrailingZeros_0 1 rfl rfl)
theorem dJ25_numberOfTrailingZeros_2 : decode cJ25_numberOfTrailingZeros 2 = .ok (.istore_n 2, 1) := dk_61 (dk_at dksJ25_numberOfTrailingZeros_0 2 rfl rfl)
theorem dJ25_numberOfTrailingZeros_3 : decode cJ25_numberOfTrailingZeros 3 = .ok (.iload_n 2, 1) := dk_28 (dk_at dksJ25_numberOfTrailingZeros_0 3 rfl rfl)
theorem dJ25_numberOfTrailingZeros_4 : decode cJ25_numberOfTrailingZeros 4 = .ok (.ifCond .ne 17, 3) := dk_154 0 17 (dk_at dksJ25_numberOfTrailingZeros_0 4 rfl rfl)
theorem dJ25_numberOfTrailingZeros_7 : decode cJ25_numberOfTrailingZeros 7 = .ok (.bipush 32, 2) := dk_16 32 (dk_at dksJ25_numberOfTrailingZeros_0 7 rfl rfl)
theorem dJ25_numberOfTrailingZeros_9 : decode cJ25_numberOfTrailingZeros 9 = .ok (.lload_n 0, 1) := dk_30 (dk_at dksJ25_numberOfTrailingZeros_0 9 rfl rfl)
theorem dJ25_numberOfTrailingZeros_10 : decode cJ25_numberOfTrailingZeros 10 = .ok (.bipush 32, 2) := dk_16 32 (dk_at dksJ25_numberOfTrailingZeros_0 10 rfl rfl)
theorem dJ25_numberOfTrailingZeros_12 : decode cJ25_numberOfTrailingZeros 12 = .ok (.lushr, 1) := dk_125 (dk_at dksJ25_numberOfTrailingZeros_0 12 rfl rfl)
theorem dJ25_numberOfTrailingZeros_13 : decode cJ25_numberOfTrailingZeros 13 = .ok (.l2i, 1) := dk_136 (dk_at dksJ25_numberOfTrailingZeros_0 13 rfl rfl)
theorem dJ25_numberOfTrailingZeros_14 : decode cJ25_numberOfTrailingZeros 14 = .ok (.invokestatic 311, 3) := dk_184 1 55 (dk_at dksJ25_numberOfTrailingZeros_0 14 rfl rfl)
theorem dJ25_numberOfTrailingZeros_17 : decode cJ25_numberOfTrailingZeros 17 = .ok (.iadd, 1) := dk_96 (dk_at dksJ25_numberOfTrailingZeros_0 17 rfl rfl)
theorem dJ25_numberOfTrailingZeros_18 : decode cJ25_numberOfTrailingZeros 18 = .ok (.goto 7, 3) := dk_167 0 7 (dk_at dksJ25_numberOfTrailingZeros_0 18 rfl rfl)
theorem dJ25_numberOfTrailingZeros_21 : decode cJ25_numberOfTrailingZeros 21 = .ok (.iload_n 2, 1) := dk_28 (dk_at dksJ25_numberOfTrailingZeros_0 21 rfl rfl)
theorem dJ25_numberOfTrailingZeros_22 : decode cJ25_numberOfTrailingZeros 22 = .ok (.invokestatic 311, 3) := dk_184 1 55 (dk_at dksJ25_numberOfTrailingZeros_1 0 rfl rfl)
theorem dJ25_numberOfTrailingZeros_25 : decode cJ25_numberOfTrailingZeros 25 = .ok (.ireturn, 1) := dk_172 (dk_at dksJ25_numberOfTrailingZeros_1 3 rfl rfl)
theorem q150 : (Jvm.Cond.initialized "java/lang/Long") ∈ lw_all := lw_g (lw_at lw_m1 39 rfl) rfl
theorem q1405 : (Jvm.Cond.static ({ cls := "java/lang/Long", name := "numberOfLeadingZeros", desc := "(J)I" } : Jvm.MethodName)) ∈ lw_all := lw_g (lw_at lw_m6 94 rfl) rfl
theorem q1406 : (Jvm.Cond.code ({ cls := "java/lang/Long", name := "numberOfLeadingZeros", desc := "(J)I" } : Jvm.MethodName) prog_59_method_48_code (3 : Nat) (Option.some Jvm.ClassFile.FieldType.int)) ∈ lw_all := lw_g (lw_at lw_m6 95 rfl) rfl
theorem q1407 : (Jvm.Cond.methodLink "java/lang/Long" (308 : Nat) ({ cls := "java/lang/Integer", name := "numberOfLeadingZeros", desc := "(I)I" } : Jvm.MethodName)) ∈ lw_all := lw_g (lw_at lw_m6 96 rfl) rfl
theorem q1414 : (Jvm.Cond.static ({ cls := "java/lang/Long", name := "numberOfTrailingZeros", desc := "(J)I" } : Jvm.MethodName)) ∈ lw_all := lw_g (lw_at lw_m6 103 rfl) rfl
theorem q1415 : (Jvm.Cond.code ({ cls := "java/lang/Long", name := "numberOfTrailingZeros", desc := "(J)I" } : Jvm.MethodName) prog_59_method_49_code (3 : Nat) (Option.some Jvm.ClassFile.FieldType.int)) ∈ lw_all := lw_g (lw_at lw_m6 104 rfl) rfl
theorem q1416 : (Jvm.Cond.methodLink "java/lang/Long" (311 : Nat) ({ cls := "java/lang/Integer", name := "numberOfTrailingZeros", desc := "(I)I" } : Jvm.MethodName)) ∈ lw_all := lw_g (lw_at lw_m6 105 rfl) rfl

/-! GridTable$Sum -/
set_option maxRecDepth 100000
def RX11 : String := "GridTable$Sum"
abbrev cX11_init : ByteArray := prog_27_method_1_code
def yX11_init : MethodName := ⟨RX11, "<init>", "()V"⟩
theorem dX11_init_0 : decode cX11_init 0 = .ok (.aload_n 0, 1) := by decide +kernel
theorem dX11_init_1 : decode cX11_init 1 = .ok (.invokespecial 1, 3) := by decide +kernel
theorem dX11_init_4 : decode cX11_init 4 = .ok (.return_, 1) := by decide +kernel
theorem q151 : (Jvm.Cond.initialized "GridTable$Sum") ∈ lw_all := lw_g (lw_at lw_m1 40 rfl) rfl
theorem q1544 : (Jvm.Cond.instanceMethod ({ cls := "GridTable$Sum", name := "<init>", desc := "()V" } : Jvm.MethodName)) ∈ lw_all := lw_g (lw_at lw_m6 233 rfl) rfl
theorem q1545 : (Jvm.Cond.code ({ cls := "GridTable$Sum", name := "<init>", desc := "()V" } : Jvm.MethodName) prog_27_method_1_code (1 : Nat) (Option.none : Option Jvm.ClassFile.FieldType)) ∈ lw_all := lw_g (lw_at lw_m6 234 rfl) rfl
theorem q1546 : (Jvm.Cond.methodLink "GridTable$Sum" (1 : Nat) ({ cls := "java/lang/Object", name := "<init>", desc := "()V" } : Jvm.MethodName)) ∈ lw_all := lw_g (lw_at lw_m6 235 rfl) rfl
theorem q1690 : (Jvm.Cond.declares ({ cls := "GridTable$Sum", name := "of", desc := "(LGridTable$Table;)I" } : Jvm.MethodName)) ∈ lw_tbl := lw_at lw_m7 139 rfl
theorem q1691 : (Jvm.Cond.sameMethod "GridTable$Sum" "GridTable$Sum" "of" "(LGridTable$Table;)I") ∈ lw_all := lw_g (lw_at lw_m7 140 rfl) rfl

/-! GridTable$Plain -/
set_option maxRecDepth 100000
def RX12 : String := "GridTable$Plain"
def TX12 : u_T := fun k => match k with
  | _ => ("GridTable$Plain", "number", "I", true)
def tyX12 : Nat → FieldType := fun k => match k with
  | _ => .int
abbrev wsX120 : List Cond := u_ws RX12 TX12 1
theorem nmX12 : ∀ a, a < 1 → ∀ b, b < 1 → a ≠ b → (TX12 a).2.1 ≠ (TX12 b).2.1 := by decide +kernel
theorem tyX12_ok : ∀ k, k < 1 → parseFieldDescriptor (TX12 k).2.2.1 = some (tyX12 k) := by decide +kernel
abbrev cX12_init : ByteArray := prog_14_method_1_code
def yX12_init : MethodName := ⟨RX12, "<init>", "(I)V"⟩
def dkwX12_init_0 : List UInt8 := [42, 183, 0, 1, 42, 27, 181, 0, 7, 177]
abbrev dktX12_init_0 : List UInt8 := dkwX12_init_0 ++ []
theorem dksX12_init_0 : cX12_init.data.toList.drop 0 = dktX12_init_0 := by decide +kernel
theorem dX12_init_0 : decode cX12_init 0 = .ok (.aload_n 0, 1) := dk_42 (dk_at dksX12_init_0 0 rfl rfl)
theorem dX12_init_1 : decode cX12_init 1 = .ok (.invokespecial 1, 3) := dk_183 0 1 (dk_at dksX12_init_0 1 rfl rfl)
theorem dX12_init_4 : decode cX12_init 4 = .ok (.aload_n 0, 1) := dk_42 (dk_at dksX12_init_0 4 rfl rfl)
theorem dX12_init_5 : decode cX12_init 5 = .ok (.iload_n 1, 1) := dk_27 (dk_at dksX12_init_0 5 rfl rfl)
theorem dX12_init_6 : decode cX12_init 6 = .ok (.putfield 7, 3) := dk_181 0 7 (dk_at dksX12_init_0 6 rfl rfl)
theorem dX12_init_9 : decode cX12_init 9 = .ok (.return_, 1) := dk_177 (dk_at dksX12_init_0 9 rfl rfl)
abbrev cX12_of : ByteArray := prog_14_method_2_code
def yX12_of : MethodName := ⟨RX12, "of", "(LGridTable$Table;)I"⟩
theorem dX12_of_0 : decode cX12_of 0 = .ok (.aload_n 0, 1) := by decide +kernel
theorem dX12_of_1 : decode cX12_of 1 = .ok (.getfield 7, 3) := by decide +kernel
theorem dX12_of_4 : decode cX12_of 4 = .ok (.ireturn, 1) := by decide +kernel
theorem q152 : (Jvm.Cond.initialized "GridTable$Plain") ∈ lw_all := lw_g (lw_at lw_m1 41 rfl) rfl
theorem q815 : (Jvm.Cond.selects "GridTable$Plain" ({ cls := "java/lang/Object", name := "getClass", desc := "()Ljava/lang/Class;" } : Jvm.MethodName) ({ cls := "java/lang/Object", name := "getClass", desc := "()Ljava/lang/Class;" } : Jvm.MethodName)) ∈ lw_all := lw_g (lw_at lw_m3 224 rfl) rfl
theorem q1044 : (Jvm.Cond.selects "GridTable$Plain" ({ cls := "java/lang/Object", name := "hashCode", desc := "()I" } : Jvm.MethodName) ({ cls := "java/lang/Object", name := "hashCode", desc := "()I" } : Jvm.MethodName)) ∈ lw_all := lw_g (lw_at lw_m4 213 rfl) rfl
theorem q1156 : (Jvm.Cond.selects "GridTable$Plain" ({ cls := "java/lang/Object", name := "equals", desc := "(Ljava/lang/Object;)Z" } : Jvm.MethodName) ({ cls := "java/lang/Object", name := "equals", desc := "(Ljava/lang/Object;)Z" } : Jvm.MethodName)) ∈ lw_all := lw_g (lw_at lw_m5 85 rfl) rfl
theorem q1523 : (Jvm.Cond.instantiable "GridTable$Plain" (1 : Nat)) ∈ lw_all := lw_g (lw_at lw_m6 212 rfl) rfl
theorem q1541 : (Jvm.Cond.instanceMethod ({ cls := "GridTable$Plain", name := "<init>", desc := "(I)V" } : Jvm.MethodName)) ∈ lw_all := lw_g (lw_at lw_m6 230 rfl) rfl
theorem q1542 : (Jvm.Cond.code ({ cls := "GridTable$Plain", name := "<init>", desc := "(I)V" } : Jvm.MethodName) prog_14_method_1_code (2 : Nat) (Option.none : Option Jvm.ClassFile.FieldType)) ∈ lw_all := lw_g (lw_at lw_m6 231 rfl) rfl
theorem q1543 : (Jvm.Cond.methodLinkNest "GridTable$Plain" (1 : Nat) ({ cls := "GridTable$Sum", name := "<init>", desc := "()V" } : Jvm.MethodName) "GridTable") ∈ lw_tbl := lw_at lw_m6 232 rfl
theorem q1547 : (Jvm.Cond.fieldLink "GridTable$Plain" (7 : Nat) "GridTable$Plain" "number" "I") ∈ lw_all := lw_g (lw_at lw_m6 236 rfl) rfl
theorem q1548 : (Jvm.Cond.laysFinal "GridTable$Plain" "GridTable$Plain" "number" "I") ∈ lw_all := lw_g (lw_at lw_m6 237 rfl) rfl
theorem q1549 : (Jvm.Cond.soleField "GridTable$Plain" "number") ∈ lw_all := lw_g (lw_at lw_m6 238 rfl) rfl
theorem q1550 : (Jvm.Cond.superclass "GridTable$Plain" "GridTable$Sum") ∈ lw_all := lw_g (lw_at lw_m6 239 rfl) rfl
theorem q1756 : (Jvm.Cond.instanceMethod ({ cls := "GridTable$Plain", name := "of", desc := "(LGridTable$Table;)I" } : Jvm.MethodName)) ∈ lw_all := lw_g (lw_at lw_m7 205 rfl) rfl
theorem q1757 : (Jvm.Cond.code ({ cls := "GridTable$Plain", name := "of", desc := "(LGridTable$Table;)I" } : Jvm.MethodName) prog_14_method_2_code (2 : Nat) (Option.some Jvm.ClassFile.FieldType.int)) ∈ lw_all := lw_g (lw_at lw_m7 206 rfl) rfl
theorem q1784 : (Jvm.Cond.selects "GridTable$Plain" ({ cls := "GridTable$Sum", name := "of", desc := "(LGridTable$Table;)I" } : Jvm.MethodName) ({ cls := "GridTable$Plain", name := "of", desc := "(LGridTable$Table;)I" } : Jvm.MethodName)) ∈ lw_all := lw_g (lw_at lw_m7 233 rfl) rfl
theorem q3323 : (Jvm.Cond.castable "GridTable$Plain" "GridTable$Sum") ∈ lw_tbl := lw_at lw_m14 92 rfl
theorem q3346 : (Jvm.Cond.castable "GridTable$Plain" "java/lang/Object") ∈ lw_tbl := lw_at lw_m14 115 rfl
theorem in_X12 : ∀ w ∈ wsX120, w ∈ lw_all := lw_in wsX120 [1548] (by decide +kernel) (by decide +kernel)

/-! java/util/Optional -/
set_option maxRecDepth 100000
def RJ26 : String := "java/util/Optional"
def TJ26 : u_T := fun k => match k with
  | _ => ("java/util/Optional", "value", "Ljava/lang/Object;", true)
def tyJ26 : Nat → FieldType := fun k => match k with
  | _ => .object "java/lang/Object"
abbrev wsJ260 : List Cond := u_ws RJ26 TJ26 1
theorem nmJ26 : ∀ a, a < 1 → ∀ b, b < 1 → a ≠ b → (TJ26 a).2.1 ≠ (TJ26 b).2.1 := by decide +kernel
theorem tyJ26_ok : ∀ k, k < 1 → parseFieldDescriptor (TJ26 k).2.2.1 = some (tyJ26 k) := by decide +kernel
abbrev cJ26_ofNullable : ByteArray := prog_88_method_4_code
def yJ26_ofNullable : MethodName := ⟨RJ26, "ofNullable", "(Ljava/lang/Object;)Ljava/util/Optional;"⟩
def dkwJ26_ofNullable_0 : List UInt8 := [42, 199, 0, 9, 178, 0, 1, 167, 0, 11, 187, 0, 2, 89, 42, 183, 0, 23, 176]
abbrev dktJ26_ofNullable_0 : List UInt8 := dkwJ26_ofNullable_0 ++ []
theorem dksJ26_ofNullable_0 : cJ26_ofNullable.data.toList.drop 0 = dktJ26_ofNullable_0 := by decide +kernel
theorem dJ26_ofNullable_0 : decode cJ26_ofNullable 0 = .ok (.aload_n 0, 1) := dk_42 (dk_at dksJ26_ofNullable_0 0 rfl rfl)
theorem dJ26_ofNullable_1 : decode cJ26_ofNullable 1 = .ok (.ifnonnull 9, 3) := dk_199 0 9 (dk_at dksJ26_ofNullable_0 1 rfl rfl)
theorem dJ26_ofNullable_4 : decode cJ26_ofNullable 4 = .ok (.getstatic 1, 3) := dk_178 0 1 (dk_at dksJ26_ofNullable_0 4 rfl rfl)
theorem dJ26_ofNullable_7 : decode cJ26_ofNullable 7 = .ok (.goto 11, 3) := dk_167 0 11 (dk_at dksJ26_ofNullable_0 7 rfl rfl)
theorem dJ26_ofNullable_10 : decode cJ26_ofNullable 10 = .ok (.new 2, 3) := dk_187 0 2 (dk_at dksJ26_ofNullable_0 10 rfl rfl)
theorem dJ26_ofNullable_13 : decode cJ26_ofNullable 13 = .ok (.dup, 1) := dk_89 (dk_at dksJ26_ofNullable_0 13 rfl rfl)
theorem dJ26_ofNullable_14 : decode cJ26_ofNullable 14 = .ok (.aload_n 0, 1) := dk_42 (dk_at dksJ26_ofNullable_0 14 rfl rfl)
theorem dJ26_ofNullable_15 : decode cJ26_ofNullable 15 = .ok (.invokespecial 23, 3) := dk_183 0 23 (dk_at dksJ26_ofNullable_0 15 rfl rfl)
theorem dJ26_ofNullable_18 : decode cJ26_ofNullable 18 = .ok (.areturn, 1) := dk_176 (dk_at dksJ26_ofNullable_0 18 rfl rfl)
abbrev cJ26_init : ByteArray := prog_88_method_2_code
def yJ26_init : MethodName := ⟨RJ26, "<init>", "(Ljava/lang/Object;)V"⟩
def dkwJ26_init_0 : List UInt8 := [42, 183, 0, 7, 42, 43, 181, 0, 13, 177]
abbrev dktJ26_init_0 : List UInt8 := dkwJ26_init_0 ++ []
theorem dksJ26_init_0 : cJ26_init.data.toList.drop 0 = dktJ26_init_0 := by decide +kernel
theorem dJ26_init_0 : decode cJ26_init 0 = .ok (.aload_n 0, 1) := dk_42 (dk_at dksJ26_init_0 0 rfl rfl)
theorem dJ26_init_1 : decode cJ26_init 1 = .ok (.invokespecial 7, 3) := dk_183 0 7 (dk_at dksJ26_init_0 1 rfl rfl)
theorem dJ26_init_4 : decode cJ26_init 4 = .ok (.aload_n 0, 1) := dk_42 (dk_at dksJ26_init_0 4 rfl rfl)
theorem dJ26_init_5 : decode cJ26_init 5 = .ok (.aload_n 1, 1) := dk_43 (dk_at dksJ26_init_0 5 rfl rfl)
theorem dJ26_init_6 : decode cJ26_init 6 = .ok (.putfield 13, 3) := dk_181 0 13 (dk_at dksJ26_init_0 6 rfl rfl)
theorem dJ26_init_9 : decode cJ26_init 9 = .ok (.return_, 1) := dk_177 (dk_at dksJ26_init_0 9 rfl rfl)
abbrev cJ26_orElse : ByteArray := prog_88_method_15_code
def yJ26_orElse : MethodName := ⟨RJ26, "orElse", "(Ljava/lang/Object;)Ljava/lang/Object;"⟩
def dkwJ26_orElse_0 : List UInt8 := [42, 180, 0, 13, 198, 0, 10, 42, 180, 0, 13, 167, 0, 4, 43, 176]
abbrev dktJ26_orElse_0 : List UInt8 := dkwJ26_orElse_0 ++ []
theorem dksJ26_orElse_0 : cJ26_orElse.data.toList.drop 0 = dktJ26_orElse_0 := by decide +kernel
theorem dJ26_orElse_0 : decode cJ26_orElse 0 = .ok (.aload_n 0, 1) := dk_42 (dk_at dksJ26_orElse_0 0 rfl rfl)
theorem dJ26_orElse_1 : decode cJ26_orElse 1 = .ok (.getfield 13, 3) := dk_180 0 13 (dk_at dksJ26_orElse_0 1 rfl rfl)
theorem dJ26_orElse_4 : decode cJ26_orElse 4 = .ok (.ifnull 10, 3) := dk_198 0 10 (dk_at dksJ26_orElse_0 4 rfl rfl)
theorem dJ26_orElse_7 : decode cJ26_orElse 7 = .ok (.aload_n 0, 1) := dk_42 (dk_at dksJ26_orElse_0 7 rfl rfl)
theorem dJ26_orElse_8 : decode cJ26_orElse 8 = .ok (.getfield 13, 3) := dk_180 0 13 (dk_at dksJ26_orElse_0 8 rfl rfl)
theorem dJ26_orElse_11 : decode cJ26_orElse 11 = .ok (.goto 4, 3) := dk_167 0 4 (dk_at dksJ26_orElse_0 11 rfl rfl)
theorem dJ26_orElse_14 : decode cJ26_orElse 14 = .ok (.aload_n 1, 1) := dk_43 (dk_at dksJ26_orElse_0 14 rfl rfl)
theorem dJ26_orElse_15 : decode cJ26_orElse 15 = .ok (.areturn, 1) := dk_176 (dk_at dksJ26_orElse_0 15 rfl rfl)
abbrev cJ26_empty : ByteArray := prog_88_method_1_code
def yJ26_empty : MethodName := ⟨RJ26, "empty", "()Ljava/util/Optional;"⟩
def dkwJ26_empty_0 : List UInt8 := [178, 0, 1, 75, 42, 176]
abbrev dktJ26_empty_0 : List UInt8 := dkwJ26_empty_0 ++ []
theorem dksJ26_empty_0 : cJ26_empty.data.toList.drop 0 = dktJ26_empty_0 := by decide +kernel
theorem dJ26_empty_0 : decode cJ26_empty 0 = .ok (.getstatic 1, 3) := dk_178 0 1 (dk_at dksJ26_empty_0 0 rfl rfl)
theorem dJ26_empty_3 : decode cJ26_empty 3 = .ok (.astore_n 0, 1) := dk_75 (dk_at dksJ26_empty_0 3 rfl rfl)
theorem dJ26_empty_4 : decode cJ26_empty 4 = .ok (.aload_n 0, 1) := dk_42 (dk_at dksJ26_empty_0 4 rfl rfl)
theorem dJ26_empty_5 : decode cJ26_empty 5 = .ok (.areturn, 1) := dk_176 (dk_at dksJ26_empty_0 5 rfl rfl)
abbrev cJ26_of : ByteArray := prog_88_method_3_code
def yJ26_of : MethodName := ⟨RJ26, "of", "(Ljava/lang/Object;)Ljava/util/Optional;"⟩
def dkwJ26_of_0 : List UInt8 := [187, 0, 2, 89, 42, 184, 0, 17, 183, 0, 23, 176]
abbrev dktJ26_of_0 : List UInt8 := dkwJ26_of_0 ++ []
theorem dksJ26_of_0 : cJ26_of.data.toList.drop 0 = dktJ26_of_0 := by decide +kernel
theorem dJ26_of_0 : decode cJ26_of 0 = .ok (.new 2, 3) := dk_187 0 2 (dk_at dksJ26_of_0 0 rfl rfl)
theorem dJ26_of_3 : decode cJ26_of 3 = .ok (.dup, 1) := dk_89 (dk_at dksJ26_of_0 3 rfl rfl)
theorem dJ26_of_4 : decode cJ26_of 4 = .ok (.aload_n 0, 1) := dk_42 (dk_at dksJ26_of_0 4 rfl rfl)
theorem dJ26_of_5 : decode cJ26_of 5 = .ok (.invokestatic 17, 3) := dk_184 0 17 (dk_at dksJ26_of_0 5 rfl rfl)
theorem dJ26_of_8 : decode cJ26_of 8 = .ok (.invokespecial 23, 3) := dk_183 0 23 (dk_at dksJ26_of_0 8 rfl rfl)
theorem dJ26_of_11 : decode cJ26_of 11 = .ok (.areturn, 1) := dk_176 (dk_at dksJ26_of_0 11 rfl rfl)
abbrev cJ26_get : ByteArray := prog_88_method_5_code
def yJ26_get : MethodName := ⟨RJ26, "get", "()Ljava/lang/Object;"⟩
def dkwJ26_get_0 : List UInt8 := [42, 180, 0, 13, 199, 0, 13, 187, 0, 26, 89, 18, 28, 183, 0, 30, 191, 42, 180, 0, 13, 176]
abbrev dktJ26_get_0 : List UInt8 := dkwJ26_get_0 ++ []
theorem dksJ26_get_0 : cJ26_get.data.toList.drop 0 = dktJ26_get_0 := by decide +kernel
theorem dJ26_get_0 : decode cJ26_get 0 = .ok (.aload_n 0, 1) := dk_42 (dk_at dksJ26_get_0 0 rfl rfl)
theorem dJ26_get_1 : decode cJ26_get 1 = .ok (.getfield 13, 3) := dk_180 0 13 (dk_at dksJ26_get_0 1 rfl rfl)
theorem dJ26_get_4 : decode cJ26_get 4 = .ok (.ifnonnull 13, 3) := dk_199 0 13 (dk_at dksJ26_get_0 4 rfl rfl)
theorem dJ26_get_7 : decode cJ26_get 7 = .ok (.new 26, 3) := dk_187 0 26 (dk_at dksJ26_get_0 7 rfl rfl)
theorem dJ26_get_10 : decode cJ26_get 10 = .ok (.dup, 1) := dk_89 (dk_at dksJ26_get_0 10 rfl rfl)
theorem dJ26_get_11 : decode cJ26_get 11 = .ok (.ldc 28, 2) := dk_18 28 (dk_at dksJ26_get_0 11 rfl rfl)
theorem dJ26_get_13 : decode cJ26_get 13 = .ok (.invokespecial 30, 3) := dk_183 0 30 (dk_at dksJ26_get_0 13 rfl rfl)
theorem dJ26_get_16 : decode cJ26_get 16 = .ok (.athrow, 1) := dk_191 (dk_at dksJ26_get_0 16 rfl rfl)
theorem dJ26_get_17 : decode cJ26_get 17 = .ok (.aload_n 0, 1) := dk_42 (dk_at dksJ26_get_0 17 rfl rfl)
theorem dJ26_get_18 : decode cJ26_get 18 = .ok (.getfield 13, 3) := dk_180 0 13 (dk_at dksJ26_get_0 18 rfl rfl)
theorem dJ26_get_21 : decode cJ26_get 21 = .ok (.areturn, 1) := dk_176 (dk_at dksJ26_get_0 21 rfl rfl)
theorem q153 : (Jvm.Cond.initialized "java/util/Optional") ∈ lw_all := lw_g (lw_at lw_m1 42 rfl) rfl
theorem q852 : (Jvm.Cond.selects "java/util/Optional" ({ cls := "java/lang/Object", name := "getClass", desc := "()Ljava/lang/Class;" } : Jvm.MethodName) ({ cls := "java/lang/Object", name := "getClass", desc := "()Ljava/lang/Class;" } : Jvm.MethodName)) ∈ lw_all := lw_g (lw_at lw_m4 21 rfl) rfl
theorem q1562 : (Jvm.Cond.static ({ cls := "java/util/Optional", name := "ofNullable", desc := "(Ljava/lang/Object;)Ljava/util/Optional;" } : Jvm.MethodName)) ∈ lw_all := lw_g (lw_at lw_m7 11 rfl) rfl
theorem q1563 : (Jvm.Cond.code ({ cls := "java/util/Optional", name := "ofNullable", desc := "(Ljava/lang/Object;)Ljava/util/Optional;" } : Jvm.MethodName) prog_88_method_4_code (1 : Nat) (Option.some (Jvm.ClassFile.FieldType.object "java/util/Optional"))) ∈ lw_all := lw_g (lw_at lw_m7 12 rfl) rfl
theorem q1564 : (Jvm.Cond.fieldLink "java/util/Optional" (1 : Nat) "java/util/Optional" "EMPTY" "Ljava/util/Optional;") ∈ lw_all := lw_g (lw_at lw_m7 13 rfl) rfl
theorem q1565 : (Jvm.Cond.laysStatic "java/util/Optional" "EMPTY" "Ljava/util/Optional;") ∈ lw_tbl := lw_at lw_m7 14 rfl
theorem q1566 : (Jvm.Cond.classLink "java/util/Optional" (2 : Nat) "java/util/Optional") ∈ lw_all := lw_g (lw_at lw_m7 15 rfl) rfl
theorem q1567 : (Jvm.Cond.instantiable "java/util/Optional" (1 : Nat)) ∈ lw_all := lw_g (lw_at lw_m7 16 rfl) rfl
theorem q1568 : (Jvm.Cond.methodLink "java/util/Optional" (23 : Nat) ({ cls := "java/util/Optional", name := "<init>", desc := "(Ljava/lang/Object;)V" } : Jvm.MethodName)) ∈ lw_all := lw_g (lw_at lw_m7 17 rfl) rfl
theorem q1569 : (Jvm.Cond.instanceMethod ({ cls := "java/util/Optional", name := "<init>", desc := "(Ljava/lang/Object;)V" } : Jvm.MethodName)) ∈ lw_all := lw_g (lw_at lw_m7 18 rfl) rfl
theorem q1570 : (Jvm.Cond.code ({ cls := "java/util/Optional", name := "<init>", desc := "(Ljava/lang/Object;)V" } : Jvm.MethodName) prog_88_method_2_code (2 : Nat) (Option.none : Option Jvm.ClassFile.FieldType)) ∈ lw_all := lw_g (lw_at lw_m7 19 rfl) rfl
theorem q1571 : (Jvm.Cond.methodLink "java/util/Optional" (7 : Nat) ({ cls := "java/lang/Object", name := "<init>", desc := "()V" } : Jvm.MethodName)) ∈ lw_all := lw_g (lw_at lw_m7 20 rfl) rfl
theorem q1572 : (Jvm.Cond.fieldLink "java/util/Optional" (13 : Nat) "java/util/Optional" "value" "Ljava/lang/Object;") ∈ lw_all := lw_g (lw_at lw_m7 21 rfl) rfl
theorem q1573 : (Jvm.Cond.laysFinal "java/util/Optional" "java/util/Optional" "value" "Ljava/lang/Object;") ∈ lw_all := lw_g (lw_at lw_m7 22 rfl) rfl
theorem q1574 : (Jvm.Cond.soleField "java/util/Optional" "value") ∈ lw_all := lw_g (lw_at lw_m7 23 rfl) rfl
theorem q1575 : (Jvm.Cond.superclass "java/util/Optional" "java/lang/Object") ∈ lw_all := lw_g (lw_at lw_m7 24 rfl) rfl
theorem q1596 : (Jvm.Cond.instanceMethod ({ cls := "java/util/Optional", name := "orElse", desc := "(Ljava/lang/Object;)Ljava/lang/Object;" } : Jvm.MethodName)) ∈ lw_all := lw_g (lw_at lw_m7 45 rfl) rfl
theorem q1597 : (Jvm.Cond.selects "java/util/Optional" ({ cls := "java/util/Optional", name := "orElse", desc := "(Ljava/lang/Object;)Ljava/lang/Object;" } : Jvm.MethodName) ({ cls := "java/util/Optional", name := "orElse", desc := "(Ljava/lang/Object;)Ljava/lang/Object;" } : Jvm.MethodName)) ∈ lw_all := lw_g (lw_at lw_m7 46 rfl) rfl
theorem q1598 : (Jvm.Cond.code ({ cls := "java/util/Optional", name := "orElse", desc := "(Ljava/lang/Object;)Ljava/lang/Object;" } : Jvm.MethodName) prog_88_method_15_code (2 : Nat) (Option.some (Jvm.ClassFile.FieldType.object "java/lang/Object"))) ∈ lw_all := lw_g (lw_at lw_m7 47 rfl) rfl
theorem q2032 : (Jvm.Cond.static ({ cls := "java/util/Optional", name := "empty", desc := "()Ljava/util/Optional;" } : Jvm.MethodName)) ∈ lw_all := lw_g (lw_at lw_m9 1 rfl) rfl
theorem q2033 : (Jvm.Cond.code ({ cls := "java/util/Optional", name := "empty", desc := "()Ljava/util/Optional;" } : Jvm.MethodName) prog_88_method_1_code (1 : Nat) (Option.some (Jvm.ClassFile.FieldType.object "java/util/Optional"))) ∈ lw_all := lw_g (lw_at lw_m9 2 rfl) rfl
theorem q2035 : (Jvm.Cond.static ({ cls := "java/util/Optional", name := "of", desc := "(Ljava/lang/Object;)Ljava/util/Optional;" } : Jvm.MethodName)) ∈ lw_all := lw_g (lw_at lw_m9 4 rfl) rfl
theorem q2036 : (Jvm.Cond.code ({ cls := "java/util/Optional", name := "of", desc := "(Ljava/lang/Object;)Ljava/util/Optional;" } : Jvm.MethodName) prog_88_method_3_code (1 : Nat) (Option.some (Jvm.ClassFile.FieldType.object "java/util/Optional"))) ∈ lw_all := lw_g (lw_at lw_m9 5 rfl) rfl
theorem q2037 : (Jvm.Cond.methodLink "java/util/Optional" (17 : Nat) ({ cls := "java/util/Objects", name := "requireNonNull", desc := "(Ljava/lang/Object;)Ljava/lang/Object;" } : Jvm.MethodName)) ∈ lw_all := lw_g (lw_at lw_m9 6 rfl) rfl
theorem q2274 : (Jvm.Cond.instanceMethod ({ cls := "java/util/Optional", name := "get", desc := "()Ljava/lang/Object;" } : Jvm.MethodName)) ∈ lw_all := lw_g (lw_at lw_m10 3 rfl) rfl
theorem q2275 : (Jvm.Cond.selects "java/util/Optional" ({ cls := "java/util/Optional", name := "get", desc := "()Ljava/lang/Object;" } : Jvm.MethodName) ({ cls := "java/util/Optional", name := "get", desc := "()Ljava/lang/Object;" } : Jvm.MethodName)) ∈ lw_all := lw_g (lw_at lw_m10 4 rfl) rfl
theorem q2276 : (Jvm.Cond.code ({ cls := "java/util/Optional", name := "get", desc := "()Ljava/lang/Object;" } : Jvm.MethodName) prog_88_method_5_code (1 : Nat) (Option.some (Jvm.ClassFile.FieldType.object "java/lang/Object"))) ∈ lw_all := lw_g (lw_at lw_m10 5 rfl) rfl
theorem q3347 : (Jvm.Cond.castable "java/util/Optional" "java/lang/Object") ∈ lw_tbl := lw_at lw_m14 116 rfl
theorem in_J26 : ∀ w ∈ wsJ260, w ∈ lw_all := lw_in wsJ260 [1573] (by decide +kernel) (by decide +kernel)

/-! GridTable$Crossings -/
set_option maxRecDepth 100000
def RX13 : String := "GridTable$Crossings"
def TX13 : u_T := fun k => match k with
  | 0 => ("GridTable$Crossings", "a", "I", true)
  | _ => ("GridTable$Crossings", "b", "I", true)
def tyX13 : Nat → FieldType := fun k => match k with
  | 0 => .int
  | _ => .int
abbrev wsX130 : List Cond := u_ws RX13 TX13 2
theorem nmX13 : ∀ a, a < 2 → ∀ b, b < 2 → a ≠ b → (TX13 a).2.1 ≠ (TX13 b).2.1 := by decide +kernel
theorem tyX13_ok : ∀ k, k < 2 → parseFieldDescriptor (TX13 k).2.2.1 = some (tyX13 k) := by decide +kernel
abbrev cX13_init : ByteArray := prog_4_method_1_code
def yX13_init : MethodName := ⟨RX13, "<init>", "(II)V"⟩
def dkwX13_init_0 : List UInt8 := [42, 183, 0, 1, 42, 27, 181, 0, 7, 42, 28, 181, 0, 13, 177]
abbrev dktX13_init_0 : List UInt8 := dkwX13_init_0 ++ []
theorem dksX13_init_0 : cX13_init.data.toList.drop 0 = dktX13_init_0 := by decide +kernel
theorem dX13_init_0 : decode cX13_init 0 = .ok (.aload_n 0, 1) := dk_42 (dk_at dksX13_init_0 0 rfl rfl)
theorem dX13_init_1 : decode cX13_init 1 = .ok (.invokespecial 1, 3) := dk_183 0 1 (dk_at dksX13_init_0 1 rfl rfl)
theorem dX13_init_4 : decode cX13_init 4 = .ok (.aload_n 0, 1) := dk_42 (dk_at dksX13_init_0 4 rfl rfl)
theorem dX13_init_5 : decode cX13_init 5 = .ok (.iload_n 1, 1) := dk_27 (dk_at dksX13_init_0 5 rfl rfl)
theorem dX13_init_6 : decode cX13_init 6 = .ok (.putfield 7, 3) := dk_181 0 7 (dk_at dksX13_init_0 6 rfl rfl)
theorem dX13_init_9 : decode cX13_init 9 = .ok (.aload_n 0, 1) := dk_42 (dk_at dksX13_init_0 9 rfl rfl)
theorem dX13_init_10 : decode cX13_init 10 = .ok (.iload_n 2, 1) := dk_28 (dk_at dksX13_init_0 10 rfl rfl)
theorem dX13_init_11 : decode cX13_init 11 = .ok (.putfield 13, 3) := dk_181 0 13 (dk_at dksX13_init_0 11 rfl rfl)
theorem dX13_init_14 : decode cX13_init 14 = .ok (.return_, 1) := dk_177 (dk_at dksX13_init_0 14 rfl rfl)
abbrev cX13_of : ByteArray := prog_4_method_2_code
def yX13_of : MethodName := ⟨RX13, "of", "(LGridTable$Table;)I"⟩
def dkwX13_of_1 : List UInt8 := [182, 0, 22, 192, 0, 28, 182, 0, 30, 172]
abbrev dktX13_of_1 : List UInt8 := dkwX13_of_1 ++ []
def dkwX13_of_0 : List UInt8 := [43, 180, 0, 16, 42, 180, 0, 7, 182, 0, 22, 192, 0, 28, 43, 180, 0, 16, 42, 180, 0, 13]
abbrev dktX13_of_0 : List UInt8 := dkwX13_of_0 ++ dktX13_of_1
theorem dksX13_of_0 : cX13_of.data.toList.drop 0 = dktX13_of_0 := by decide +kernel
theorem dksX13_of_1 : cX13_of.data.toList.drop 22 = dktX13_of_1 := dk_seg dksX13_of_0 22 rfl rfl
theorem dX13_of_0 : decode cX13_of 0 = .ok (.aload_n 1, 1) := dk_43 (dk_at dksX13_of_0 0 rfl rfl)
theorem dX13_of_1 : decode cX13_of 1 = .ok (.getfield 16, 3) := dk_180 0 16 (dk_at dksX13_of_0 1 rfl rfl)
theorem dX13_of_4 : decode cX13_of 4 = .ok (.aload_n 0, 1) := dk_42 (dk_at dksX13_of_0 4 rfl rfl)
theorem dX13_of_5 : decode cX13_of 5 = .ok (.getfield 7, 3) := dk_180 0 7 (dk_at dksX13_of_0 5 rfl rfl)
theorem dX13_of_8 : decode cX13_of 8 = .ok (.invokevirtual 22, 3) := dk_182 0 22 (dk_at dksX13_of_0 8 rfl rfl)
theorem dX13_of_11 : decode cX13_of 11 = .ok (.checkcast 28, 3) := dk_192 0 28 (dk_at dksX13_of_0 11 rfl rfl)
theorem dX13_of_14 : decode cX13_of 14 = .ok (.aload_n 1, 1) := dk_43 (dk_at dksX13_of_0 14 rfl rfl)
theorem dX13_of_15 : decode cX13_of 15 = .ok (.getfield 16, 3) := dk_180 0 16 (dk_at dksX13_of_0 15 rfl rfl)
theorem dX13_of_18 : decode cX13_of 18 = .ok (.aload_n 0, 1) := dk_42 (dk_at dksX13_of_0 18 rfl rfl)
theorem dX13_of_19 : decode cX13_of 19 = .ok (.getfield 13, 3) := dk_180 0 13 (dk_at dksX13_of_0 19 rfl rfl)
theorem dX13_of_22 : decode cX13_of 22 = .ok (.invokevirtual 22, 3) := dk_182 0 22 (dk_at dksX13_of_1 0 rfl rfl)
theorem dX13_of_25 : decode cX13_of 25 = .ok (.checkcast 28, 3) := dk_192 0 28 (dk_at dksX13_of_1 3 rfl rfl)
theorem dX13_of_28 : decode cX13_of 28 = .ok (.invokevirtual 30, 3) := dk_182 0 30 (dk_at dksX13_of_1 6 rfl rfl)
theorem dX13_of_31 : decode cX13_of 31 = .ok (.ireturn, 1) := dk_172 (dk_at dksX13_of_1 9 rfl rfl)
theorem q155 : (Jvm.Cond.initialized "GridTable$Crossings") ∈ lw_all := lw_g (lw_at lw_m1 44 rfl) rfl
theorem q255 : (Jvm.Cond.fieldLinkNest "GridTable$Crossings" (16 : Nat) "GridTable$Table" "shapes" "Ljava/util/ArrayList;" "GridTable") ∈ lw_tbl := lw_at lw_m1 144 rfl
theorem q806 : (Jvm.Cond.selects "GridTable$Crossings" ({ cls := "java/lang/Object", name := "getClass", desc := "()Ljava/lang/Class;" } : Jvm.MethodName) ({ cls := "java/lang/Object", name := "getClass", desc := "()Ljava/lang/Class;" } : Jvm.MethodName)) ∈ lw_all := lw_g (lw_at lw_m3 215 rfl) rfl
theorem q1030 : (Jvm.Cond.selects "GridTable$Crossings" ({ cls := "java/lang/Object", name := "hashCode", desc := "()I" } : Jvm.MethodName) ({ cls := "java/lang/Object", name := "hashCode", desc := "()I" } : Jvm.MethodName)) ∈ lw_all := lw_g (lw_at lw_m4 199 rfl) rfl
theorem q1145 : (Jvm.Cond.selects "GridTable$Crossings" ({ cls := "java/lang/Object", name := "equals", desc := "(Ljava/lang/Object;)Z" } : Jvm.MethodName) ({ cls := "java/lang/Object", name := "equals", desc := "(Ljava/lang/Object;)Z" } : Jvm.MethodName)) ∈ lw_all := lw_g (lw_at lw_m5 74 rfl) rfl
theorem q1601 : (Jvm.Cond.instantiable "GridTable$Crossings" (2 : Nat)) ∈ lw_all := lw_g (lw_at lw_m7 50 rfl) rfl
theorem q1603 : (Jvm.Cond.instanceMethod ({ cls := "GridTable$Crossings", name := "<init>", desc := "(II)V" } : Jvm.MethodName)) ∈ lw_all := lw_g (lw_at lw_m7 52 rfl) rfl
theorem q1604 : (Jvm.Cond.code ({ cls := "GridTable$Crossings", name := "<init>", desc := "(II)V" } : Jvm.MethodName) prog_4_method_1_code (3 : Nat) (Option.none : Option Jvm.ClassFile.FieldType)) ∈ lw_all := lw_g (lw_at lw_m7 53 rfl) rfl
theorem q1605 : (Jvm.Cond.methodLinkNest "GridTable$Crossings" (1 : Nat) ({ cls := "GridTable$Sum", name := "<init>", desc := "()V" } : Jvm.MethodName) "GridTable") ∈ lw_tbl := lw_at lw_m7 54 rfl
theorem q1606 : (Jvm.Cond.fieldLink "GridTable$Crossings" (7 : Nat) "GridTable$Crossings" "a" "I") ∈ lw_all := lw_g (lw_at lw_m7 55 rfl) rfl
theorem q1607 : (Jvm.Cond.fieldLink "GridTable$Crossings" (13 : Nat) "GridTable$Crossings" "b" "I") ∈ lw_all := lw_g (lw_at lw_m7 56 rfl) rfl
theorem q1608 : (Jvm.Cond.laysFinal "GridTable$Crossings" "GridTable$Crossings" "a" "I") ∈ lw_all := lw_g (lw_at lw_m7 57 rfl) rfl
theorem q1609 : (Jvm.Cond.soleField "GridTable$Crossings" "a") ∈ lw_all := lw_g (lw_at lw_m7 58 rfl) rfl
theorem q1610 : (Jvm.Cond.laysFinal "GridTable$Crossings" "GridTable$Crossings" "b" "I") ∈ lw_all := lw_g (lw_at lw_m7 59 rfl) rfl
theorem q1611 : (Jvm.Cond.soleField "GridTable$Crossings" "b") ∈ lw_all := lw_g (lw_at lw_m7 60 rfl) rfl
theorem q1612 : (Jvm.Cond.superclass "GridTable$Crossings" "GridTable$Sum") ∈ lw_all := lw_g (lw_at lw_m7 61 rfl) rfl
theorem q1728 : (Jvm.Cond.selects "GridTable$Crossings" ({ cls := "GridTable$Sum", name := "of", desc := "(LGridTable$Table;)I" } : Jvm.MethodName) ({ cls := "GridTable$Crossings", name := "of", desc := "(LGridTable$Table;)I" } : Jvm.MethodName)) ∈ lw_all := lw_g (lw_at lw_m7 177 rfl) rfl
theorem q1729 : (Jvm.Cond.instanceMethod ({ cls := "GridTable$Crossings", name := "of", desc := "(LGridTable$Table;)I" } : Jvm.MethodName)) ∈ lw_all := lw_g (lw_at lw_m7 178 rfl) rfl
theorem q1730 : (Jvm.Cond.code ({ cls := "GridTable$Crossings", name := "of", desc := "(LGridTable$Table;)I" } : Jvm.MethodName) prog_4_method_2_code (2 : Nat) (Option.some Jvm.ClassFile.FieldType.int)) ∈ lw_all := lw_g (lw_at lw_m7 179 rfl) rfl
theorem q1731 : (Jvm.Cond.methodLink "GridTable$Crossings" (22 : Nat) ({ cls := "java/util/ArrayList", name := "get", desc := "(I)Ljava/lang/Object;" } : Jvm.MethodName)) ∈ lw_all := lw_g (lw_at lw_m7 180 rfl) rfl
theorem q1732 : (Jvm.Cond.classLink "GridTable$Crossings" (28 : Nat) "GridTable$Table$Shape") ∈ lw_all := lw_g (lw_at lw_m7 181 rfl) rfl
theorem q1733 : (Jvm.Cond.methodLink "GridTable$Crossings" (30 : Nat) ({ cls := "GridTable$Table$Shape", name := "crosses", desc := "(LGridTable$Table$Shape;)I" } : Jvm.MethodName)) ∈ lw_all := lw_g (lw_at lw_m7 182 rfl) rfl
theorem q3321 : (Jvm.Cond.castable "GridTable$Crossings" "GridTable$Sum") ∈ lw_tbl := lw_at lw_m14 90 rfl
theorem q3349 : (Jvm.Cond.castable "GridTable$Crossings" "java/lang/Object") ∈ lw_tbl := lw_at lw_m14 118 rfl
theorem in_X13 : ∀ w ∈ wsX130, w ∈ lw_all := lw_in wsX130 [1608, 1610] (by decide +kernel) (by decide +kernel)

/-! GridTable$Asked -/
set_option maxRecDepth 100000
def RX14 : String := "GridTable$Asked"
def TX14 : u_T := fun k => match k with
  | 0 => ("GridTable$Asked", "what", "LGridTable$What;", true)
  | _ => ("GridTable$Asked", "which", "I", true)
def tyX14 : Nat → FieldType := fun k => match k with
  | 0 => .object "GridTable$What"
  | _ => .int
abbrev wsX140 : List Cond := u_ws RX14 TX14 2
theorem nmX14 : ∀ a, a < 2 → ∀ b, b < 2 → a ≠ b → (TX14 a).2.1 ≠ (TX14 b).2.1 := by decide +kernel
theorem tyX14_ok : ∀ k, k < 2 → parseFieldDescriptor (TX14 k).2.2.1 = some (tyX14 k) := by decide +kernel
abbrev cX14_init : ByteArray := prog_2_method_1_code
def yX14_init : MethodName := ⟨RX14, "<init>", "(LGridTable$What;I)V"⟩
def dkwX14_init_0 : List UInt8 := [42, 183, 0, 1, 42, 43, 181, 0, 7, 42, 28, 181, 0, 13, 177]
abbrev dktX14_init_0 : List UInt8 := dkwX14_init_0 ++ []
theorem dksX14_init_0 : cX14_init.data.toList.drop 0 = dktX14_init_0 := by decide +kernel
theorem dX14_init_0 : decode cX14_init 0 = .ok (.aload_n 0, 1) := dk_42 (dk_at dksX14_init_0 0 rfl rfl)
theorem dX14_init_1 : decode cX14_init 1 = .ok (.invokespecial 1, 3) := dk_183 0 1 (dk_at dksX14_init_0 1 rfl rfl)
theorem dX14_init_4 : decode cX14_init 4 = .ok (.aload_n 0, 1) := dk_42 (dk_at dksX14_init_0 4 rfl rfl)
theorem dX14_init_5 : decode cX14_init 5 = .ok (.aload_n 1, 1) := dk_43 (dk_at dksX14_init_0 5 rfl rfl)
theorem dX14_init_6 : decode cX14_init 6 = .ok (.putfield 7, 3) := dk_181 0 7 (dk_at dksX14_init_0 6 rfl rfl)
theorem dX14_init_9 : decode cX14_init 9 = .ok (.aload_n 0, 1) := dk_42 (dk_at dksX14_init_0 9 rfl rfl)
theorem dX14_init_10 : decode cX14_init 10 = .ok (.iload_n 2, 1) := dk_28 (dk_at dksX14_init_0 10 rfl rfl)
theorem dX14_init_11 : decode cX14_init 11 = .ok (.putfield 13, 3) := dk_181 0 13 (dk_at dksX14_init_0 11 rfl rfl)
theorem dX14_init_14 : decode cX14_init 14 = .ok (.return_, 1) := dk_177 (dk_at dksX14_init_0 14 rfl rfl)
abbrev cX14_of : ByteArray := prog_2_method_2_code
def yX14_of : MethodName := ⟨RX14, "of", "(LGridTable$Table;)I"⟩
def dkwX14_of_0 : List UInt8 := [42, 180, 0, 7, 43, 42, 180, 0, 13, 182, 0, 17, 172]
abbrev dktX14_of_0 : List UInt8 := dkwX14_of_0 ++ []
theorem dksX14_of_0 : cX14_of.data.toList.drop 0 = dktX14_of_0 := by decide +kernel
theorem dX14_of_0 : decode cX14_of 0 = .ok (.aload_n 0, 1) := dk_42 (dk_at dksX14_of_0 0 rfl rfl)
theorem dX14_of_1 : decode cX14_of 1 = .ok (.getfield 7, 3) := dk_180 0 7 (dk_at dksX14_of_0 1 rfl rfl)
theorem dX14_of_4 : decode cX14_of 4 = .ok (.aload_n 1, 1) := dk_43 (dk_at dksX14_of_0 4 rfl rfl)
theorem dX14_of_5 : decode cX14_of 5 = .ok (.aload_n 0, 1) := dk_42 (dk_at dksX14_of_0 5 rfl rfl)
theorem dX14_of_6 : decode cX14_of 6 = .ok (.getfield 13, 3) := dk_180 0 13 (dk_at dksX14_of_0 6 rfl rfl)
theorem dX14_of_9 : decode cX14_of 9 = .ok (.invokevirtual 17, 3) := dk_182 0 17 (dk_at dksX14_of_0 9 rfl rfl)
theorem dX14_of_12 : decode cX14_of 12 = .ok (.ireturn, 1) := dk_172 (dk_at dksX14_of_0 12 rfl rfl)
theorem q157 : (Jvm.Cond.initialized "GridTable$Asked") ∈ lw_all := lw_g (lw_at lw_m1 46 rfl) rfl
theorem q804 : (Jvm.Cond.selects "GridTable$Asked" ({ cls := "java/lang/Object", name := "getClass", desc := "()Ljava/lang/Class;" } : Jvm.MethodName) ({ cls := "java/lang/Object", name := "getClass", desc := "()Ljava/lang/Class;" } : Jvm.MethodName)) ∈ lw_all := lw_g (lw_at lw_m3 213 rfl) rfl
theorem q1028 : (Jvm.Cond.selects "GridTable$Asked" ({ cls := "java/lang/Object", name := "hashCode", desc := "()I" } : Jvm.MethodName) ({ cls := "java/lang/Object", name := "hashCode", desc := "()I" } : Jvm.MethodName)) ∈ lw_all := lw_g (lw_at lw_m4 197 rfl) rfl
theorem q1143 : (Jvm.Cond.selects "GridTable$Asked" ({ cls := "java/lang/Object", name := "equals", desc := "(Ljava/lang/Object;)Z" } : Jvm.MethodName) ({ cls := "java/lang/Object", name := "equals", desc := "(Ljava/lang/Object;)Z" } : Jvm.MethodName)) ∈ lw_all := lw_g (lw_at lw_m5 72 rfl) rfl
theorem q1616 : (Jvm.Cond.instantiable "GridTable$Asked" (2 : Nat)) ∈ lw_all := lw_g (lw_at lw_m7 65 rfl) rfl
theorem q1626 : (Jvm.Cond.instanceMethod ({ cls := "GridTable$Asked", name := "<init>", desc := "(LGridTable$What;I)V" } : Jvm.MethodName)) ∈ lw_all := lw_g (lw_at lw_m7 75 rfl) rfl
theorem q1627 : (Jvm.Cond.code ({ cls := "GridTable$Asked", name := "<init>", desc := "(LGridTable$What;I)V" } : Jvm.MethodName) prog_2_method_1_code (3 : Nat) (Option.none : Option Jvm.ClassFile.FieldType)) ∈ lw_all := lw_g (lw_at lw_m7 76 rfl) rfl
theorem q1628 : (Jvm.Cond.methodLinkNest "GridTable$Asked" (1 : Nat) ({ cls := "GridTable$Sum", name := "<init>", desc := "()V" } : Jvm.MethodName) "GridTable") ∈ lw_tbl := lw_at lw_m7 77 rfl
theorem q1629 : (Jvm.Cond.fieldLink "GridTable$Asked" (7 : Nat) "GridTable$Asked" "what" "LGridTable$What;") ∈ lw_all := lw_g (lw_at lw_m7 78 rfl) rfl
theorem q1630 : (Jvm.Cond.fieldLink "GridTable$Asked" (13 : Nat) "GridTable$Asked" "which" "I") ∈ lw_all := lw_g (lw_at lw_m7 79 rfl) rfl
theorem q1631 : (Jvm.Cond.laysFinal "GridTable$Asked" "GridTable$Asked" "what" "LGridTable$What;") ∈ lw_all := lw_g (lw_at lw_m7 80 rfl) rfl
theorem q1632 : (Jvm.Cond.soleField "GridTable$Asked" "what") ∈ lw_all := lw_g (lw_at lw_m7 81 rfl) rfl
theorem q1633 : (Jvm.Cond.laysFinal "GridTable$Asked" "GridTable$Asked" "which" "I") ∈ lw_all := lw_g (lw_at lw_m7 82 rfl) rfl
theorem q1634 : (Jvm.Cond.soleField "GridTable$Asked" "which") ∈ lw_all := lw_g (lw_at lw_m7 83 rfl) rfl
theorem q1635 : (Jvm.Cond.superclass "GridTable$Asked" "GridTable$Sum") ∈ lw_all := lw_g (lw_at lw_m7 84 rfl) rfl
theorem q1692 : (Jvm.Cond.selects "GridTable$Asked" ({ cls := "GridTable$Sum", name := "of", desc := "(LGridTable$Table;)I" } : Jvm.MethodName) ({ cls := "GridTable$Asked", name := "of", desc := "(LGridTable$Table;)I" } : Jvm.MethodName)) ∈ lw_all := lw_g (lw_at lw_m7 141 rfl) rfl
theorem q1693 : (Jvm.Cond.instanceMethod ({ cls := "GridTable$Asked", name := "of", desc := "(LGridTable$Table;)I" } : Jvm.MethodName)) ∈ lw_all := lw_g (lw_at lw_m7 142 rfl) rfl
theorem q1694 : (Jvm.Cond.code ({ cls := "GridTable$Asked", name := "of", desc := "(LGridTable$Table;)I" } : Jvm.MethodName) prog_2_method_2_code (2 : Nat) (Option.some Jvm.ClassFile.FieldType.int)) ∈ lw_all := lw_g (lw_at lw_m7 143 rfl) rfl
theorem q1695 : (Jvm.Cond.methodLink "GridTable$Asked" (17 : Nat) ({ cls := "GridTable$What", name := "of", desc := "(LGridTable$Table;I)I" } : Jvm.MethodName)) ∈ lw_all := lw_g (lw_at lw_m7 144 rfl) rfl
theorem q3320 : (Jvm.Cond.castable "GridTable$Asked" "GridTable$Sum") ∈ lw_tbl := lw_at lw_m14 89 rfl
theorem q3353 : (Jvm.Cond.castable "GridTable$Asked" "java/lang/Object") ∈ lw_tbl := lw_at lw_m14 122 rfl
theorem in_X14 : ∀ w ∈ wsX140, w ∈ lw_all := lw_in wsX140 [1631, 1633] (by decide +kernel) (by decide +kernel)

/-! GridTable$Turned -/
set_option maxRecDepth 100000
def RX15 : String := "GridTable$Turned"
def TX15 : u_T := fun k => match k with
  | _ => ("GridTable$Turned", "sum", "LGridTable$Sum;", true)
def tyX15 : Nat → FieldType := fun k => match k with
  | _ => .object "GridTable$Sum"
abbrev wsX150 : List Cond := u_ws RX15 TX15 1
theorem nmX15 : ∀ a, a < 1 → ∀ b, b < 1 → a ≠ b → (TX15 a).2.1 ≠ (TX15 b).2.1 := by decide +kernel
theorem tyX15_ok : ∀ k, k < 1 → parseFieldDescriptor (TX15 k).2.2.1 = some (tyX15 k) := by decide +kernel
abbrev cX15_init : ByteArray := prog_34_method_1_code
def yX15_init : MethodName := ⟨RX15, "<init>", "(LGridTable$Sum;)V"⟩
def dkwX15_init_0 : List UInt8 := [42, 183, 0, 1, 42, 43, 181, 0, 7, 177]
abbrev dktX15_init_0 : List UInt8 := dkwX15_init_0 ++ []
theorem dksX15_init_0 : cX15_init.data.toList.drop 0 = dktX15_init_0 := by decide +kernel
theorem dX15_init_0 : decode cX15_init 0 = .ok (.aload_n 0, 1) := dk_42 (dk_at dksX15_init_0 0 rfl rfl)
theorem dX15_init_1 : decode cX15_init 1 = .ok (.invokespecial 1, 3) := dk_183 0 1 (dk_at dksX15_init_0 1 rfl rfl)
theorem dX15_init_4 : decode cX15_init 4 = .ok (.aload_n 0, 1) := dk_42 (dk_at dksX15_init_0 4 rfl rfl)
theorem dX15_init_5 : decode cX15_init 5 = .ok (.aload_n 1, 1) := dk_43 (dk_at dksX15_init_0 5 rfl rfl)
theorem dX15_init_6 : decode cX15_init 6 = .ok (.putfield 7, 3) := dk_181 0 7 (dk_at dksX15_init_0 6 rfl rfl)
theorem dX15_init_9 : decode cX15_init 9 = .ok (.return_, 1) := dk_177 (dk_at dksX15_init_0 9 rfl rfl)
abbrev cX15_of : ByteArray := prog_34_method_2_code
def yX15_of : MethodName := ⟨RX15, "of", "(LGridTable$Table;)I"⟩
def dkwX15_of_0 : List UInt8 := [42, 180, 0, 7, 43, 182, 0, 13, 116, 172]
abbrev dktX15_of_0 : List UInt8 := dkwX15_of_0 ++ []
theorem dksX15_of_0 : cX15_of.data.toList.drop 0 = dktX15_of_0 := by decide +kernel
theorem dX15_of_0 : decode cX15_of 0 = .ok (.aload_n 0, 1) := dk_42 (dk_at dksX15_of_0 0 rfl rfl)
theorem dX15_of_1 : decode cX15_of 1 = .ok (.getfield 7, 3) := dk_180 0 7 (dk_at dksX15_of_0 1 rfl rfl)
theorem dX15_of_4 : decode cX15_of 4 = .ok (.aload_n 1, 1) := dk_43 (dk_at dksX15_of_0 4 rfl rfl)
theorem dX15_of_5 : decode cX15_of 5 = .ok (.invokevirtual 13, 3) := dk_182 0 13 (dk_at dksX15_of_0 5 rfl rfl)
theorem dX15_of_8 : decode cX15_of 8 = .ok (.ineg, 1) := dk_116 (dk_at dksX15_of_0 8 rfl rfl)
theorem dX15_of_9 : decode cX15_of 9 = .ok (.ireturn, 1) := dk_172 (dk_at dksX15_of_0 9 rfl rfl)
theorem q159 : (Jvm.Cond.initialized "GridTable$Turned") ∈ lw_all := lw_g (lw_at lw_m1 48 rfl) rfl
theorem q832 : (Jvm.Cond.selects "GridTable$Turned" ({ cls := "java/lang/Object", name := "getClass", desc := "()Ljava/lang/Class;" } : Jvm.MethodName) ({ cls := "java/lang/Object", name := "getClass", desc := "()Ljava/lang/Class;" } : Jvm.MethodName)) ∈ lw_all := lw_g (lw_at lw_m4 1 rfl) rfl
theorem q1061 : (Jvm.Cond.selects "GridTable$Turned" ({ cls := "java/lang/Object", name := "hashCode", desc := "()I" } : Jvm.MethodName) ({ cls := "java/lang/Object", name := "hashCode", desc := "()I" } : Jvm.MethodName)) ∈ lw_all := lw_g (lw_at lw_m4 230 rfl) rfl
theorem q1173 : (Jvm.Cond.selects "GridTable$Turned" ({ cls := "java/lang/Object", name := "equals", desc := "(Ljava/lang/Object;)Z" } : Jvm.MethodName) ({ cls := "java/lang/Object", name := "equals", desc := "(Ljava/lang/Object;)Z" } : Jvm.MethodName)) ∈ lw_all := lw_g (lw_at lw_m5 102 rfl) rfl
theorem q1642 : (Jvm.Cond.instantiable "GridTable$Turned" (1 : Nat)) ∈ lw_all := lw_g (lw_at lw_m7 91 rfl) rfl
theorem q1644 : (Jvm.Cond.instanceMethod ({ cls := "GridTable$Turned", name := "<init>", desc := "(LGridTable$Sum;)V" } : Jvm.MethodName)) ∈ lw_all := lw_g (lw_at lw_m7 93 rfl) rfl
theorem q1645 : (Jvm.Cond.code ({ cls := "GridTable$Turned", name := "<init>", desc := "(LGridTable$Sum;)V" } : Jvm.MethodName) prog_34_method_1_code (2 : Nat) (Option.none : Option Jvm.ClassFile.FieldType)) ∈ lw_all := lw_g (lw_at lw_m7 94 rfl) rfl
theorem q1646 : (Jvm.Cond.methodLinkNest "GridTable$Turned" (1 : Nat) ({ cls := "GridTable$Sum", name := "<init>", desc := "()V" } : Jvm.MethodName) "GridTable") ∈ lw_tbl := lw_at lw_m7 95 rfl
theorem q1647 : (Jvm.Cond.fieldLink "GridTable$Turned" (7 : Nat) "GridTable$Turned" "sum" "LGridTable$Sum;") ∈ lw_all := lw_g (lw_at lw_m7 96 rfl) rfl
theorem q1648 : (Jvm.Cond.laysFinal "GridTable$Turned" "GridTable$Turned" "sum" "LGridTable$Sum;") ∈ lw_all := lw_g (lw_at lw_m7 97 rfl) rfl
theorem q1649 : (Jvm.Cond.soleField "GridTable$Turned" "sum") ∈ lw_all := lw_g (lw_at lw_m7 98 rfl) rfl
theorem q1650 : (Jvm.Cond.superclass "GridTable$Turned" "GridTable$Sum") ∈ lw_all := lw_g (lw_at lw_m7 99 rfl) rfl
theorem q1758 : (Jvm.Cond.instanceMethod ({ cls := "GridTable$Turned", name := "of", desc := "(LGridTable$Table;)I" } : Jvm.MethodName)) ∈ lw_all := lw_g (lw_at lw_m7 207 rfl) rfl
theorem q1759 : (Jvm.Cond.code ({ cls := "GridTable$Turned", name := "of", desc := "(LGridTable$Table;)I" } : Jvm.MethodName) prog_34_method_2_code (2 : Nat) (Option.some Jvm.ClassFile.FieldType.int)) ∈ lw_all := lw_g (lw_at lw_m7 208 rfl) rfl
theorem q1760 : (Jvm.Cond.methodLink "GridTable$Turned" (13 : Nat) ({ cls := "GridTable$Sum", name := "of", desc := "(LGridTable$Table;)I" } : Jvm.MethodName)) ∈ lw_all := lw_g (lw_at lw_m7 209 rfl) rfl
theorem q1785 : (Jvm.Cond.selects "GridTable$Turned" ({ cls := "GridTable$Sum", name := "of", desc := "(LGridTable$Table;)I" } : Jvm.MethodName) ({ cls := "GridTable$Turned", name := "of", desc := "(LGridTable$Table;)I" } : Jvm.MethodName)) ∈ lw_all := lw_g (lw_at lw_m7 234 rfl) rfl
theorem q3324 : (Jvm.Cond.castable "GridTable$Turned" "GridTable$Sum") ∈ lw_tbl := lw_at lw_m14 93 rfl
theorem q3355 : (Jvm.Cond.castable "GridTable$Turned" "java/lang/Object") ∈ lw_tbl := lw_at lw_m14 124 rfl
theorem in_X15 : ∀ w ∈ wsX150, w ∈ lw_all := lw_in wsX150 [1648] (by decide +kernel) (by decide +kernel)

/-! GridTable$Joined -/
set_option maxRecDepth 100000
def RX16 : String := "GridTable$Joined"
def TX16 : u_T := fun k => match k with
  | 0 => ("GridTable$Joined", "sign", "LGridTable$Sign;", true)
  | 1 => ("GridTable$Joined", "left", "LGridTable$Sum;", true)
  | _ => ("GridTable$Joined", "right", "LGridTable$Sum;", true)
def tyX16 : Nat → FieldType := fun k => match k with
  | 0 => .object "GridTable$Sign"
  | 1 => .object "GridTable$Sum"
  | _ => .object "GridTable$Sum"
abbrev wsX160 : List Cond := u_ws RX16 TX16 3
theorem nmX16 : ∀ a, a < 3 → ∀ b, b < 3 → a ≠ b → (TX16 a).2.1 ≠ (TX16 b).2.1 := by decide +kernel
theorem tyX16_ok : ∀ k, k < 3 → parseFieldDescriptor (TX16 k).2.2.1 = some (tyX16 k) := by decide +kernel
abbrev cX16_init : ByteArray := prog_12_method_1_code
def yX16_init : MethodName := ⟨RX16, "<init>", "(LGridTable$Sign;LGridTable$Sum;LGridTable$Sum;)V"⟩
def dkwX16_init_0 : List UInt8 := [42, 183, 0, 1, 42, 43, 181, 0, 7, 42, 44, 181, 0, 13, 42, 45, 181, 0, 17, 177]
abbrev dktX16_init_0 : List UInt8 := dkwX16_init_0 ++ []
theorem dksX16_init_0 : cX16_init.data.toList.drop 0 = dktX16_init_0 := by decide +kernel
theorem dX16_init_0 : decode cX16_init 0 = .ok (.aload_n 0, 1) := dk_42 (dk_at dksX16_init_0 0 rfl rfl)
theorem dX16_init_1 : decode cX16_init 1 = .ok (.invokespecial 1, 3) := dk_183 0 1 (dk_at dksX16_init_0 1 rfl rfl)
theorem dX16_init_4 : decode cX16_init 4 = .ok (.aload_n 0, 1) := dk_42 (dk_at dksX16_init_0 4 rfl rfl)
theorem dX16_init_5 : decode cX16_init 5 = .ok (.aload_n 1, 1) := dk_43 (dk_at dksX16_init_0 5 rfl rfl)
theorem dX16_init_6 : decode cX16_init 6 = .ok (.putfield 7, 3) := dk_181 0 7 (dk_at dksX16_init_0 6 rfl rfl)
theorem dX16_init_9 : decode cX16_init 9 = .ok (.aload_n 0, 1) := dk_42 (dk_at dksX16_init_0 9 rfl rfl)
theorem dX16_init_10 : decode cX16_init 10 = .ok (.aload_n 2, 1) := dk_44 (dk_at dksX16_init_0 10 rfl rfl)
theorem dX16_init_11 : decode cX16_init 11 = .ok (.putfield 13, 3) := dk_181 0 13 (dk_at dksX16_init_0 11 rfl rfl)
theorem dX16_init_14 : decode cX16_init 14 = .ok (.aload_n 0, 1) := dk_42 (dk_at dksX16_init_0 14 rfl rfl)
theorem dX16_init_15 : decode cX16_init 15 = .ok (.aload_n 3, 1) := dk_45 (dk_at dksX16_init_0 15 rfl rfl)
theorem dX16_init_16 : decode cX16_init 16 = .ok (.putfield 17, 3) := dk_181 0 17 (dk_at dksX16_init_0 16 rfl rfl)
theorem dX16_init_19 : decode cX16_init 19 = .ok (.return_, 1) := dk_177 (dk_at dksX16_init_0 19 rfl rfl)
abbrev cX16_of : ByteArray := prog_12_method_2_code
def yX16_of : MethodName := ⟨RX16, "of", "(LGridTable$Table;)I"⟩
def dkwX16_of_0 : List UInt8 := [42, 180, 0, 7, 42, 180, 0, 13, 43, 182, 0, 20, 42, 180, 0, 17, 43, 182, 0, 20, 182, 0, 24, 172]
abbrev dktX16_of_0 : List UInt8 := dkwX16_of_0 ++ []
theorem dksX16_of_0 : cX16_of.data.toList.drop 0 = dktX16_of_0 := by decide +kernel
theorem dX16_of_0 : decode cX16_of 0 = .ok (.aload_n 0, 1) := dk_42 (dk_at dksX16_of_0 0 rfl rfl)
theorem dX16_of_1 : decode cX16_of 1 = .ok (.getfield 7, 3) := dk_180 0 7 (dk_at dksX16_of_0 1 rfl rfl)
theorem dX16_of_4 : decode cX16_of 4 = .ok (.aload_n 0, 1) := dk_42 (dk_at dksX16_of_0 4 rfl rfl)
theorem dX16_of_5 : decode cX16_of 5 = .ok (.getfield 13, 3) := dk_180 0 13 (dk_at dksX16_of_0 5 rfl rfl)
theorem dX16_of_8 : decode cX16_of 8 = .ok (.aload_n 1, 1) := dk_43 (dk_at dksX16_of_0 8 rfl rfl)
theorem dX16_of_9 : decode cX16_of 9 = .ok (.invokevirtual 20, 3) := dk_182 0 20 (dk_at dksX16_of_0 9 rfl rfl)
theorem dX16_of_12 : decode cX16_of 12 = .ok (.aload_n 0, 1) := dk_42 (dk_at dksX16_of_0 12 rfl rfl)
theorem dX16_of_13 : decode cX16_of 13 = .ok (.getfield 17, 3) := dk_180 0 17 (dk_at dksX16_of_0 13 rfl rfl)
theorem dX16_of_16 : decode cX16_of 16 = .ok (.aload_n 1, 1) := dk_43 (dk_at dksX16_of_0 16 rfl rfl)
theorem dX16_of_17 : decode cX16_of 17 = .ok (.invokevirtual 20, 3) := dk_182 0 20 (dk_at dksX16_of_0 17 rfl rfl)
theorem dX16_of_20 : decode cX16_of 20 = .ok (.invokevirtual 24, 3) := dk_182 0 24 (dk_at dksX16_of_0 20 rfl rfl)
theorem dX16_of_23 : decode cX16_of 23 = .ok (.ireturn, 1) := dk_172 (dk_at dksX16_of_0 23 rfl rfl)
theorem q161 : (Jvm.Cond.initialized "GridTable$Joined") ∈ lw_all := lw_g (lw_at lw_m1 50 rfl) rfl
theorem q813 : (Jvm.Cond.selects "GridTable$Joined" ({ cls := "java/lang/Object", name := "getClass", desc := "()Ljava/lang/Class;" } : Jvm.MethodName) ({ cls := "java/lang/Object", name := "getClass", desc := "()Ljava/lang/Class;" } : Jvm.MethodName)) ∈ lw_all := lw_g (lw_at lw_m3 222 rfl) rfl
theorem q1042 : (Jvm.Cond.selects "GridTable$Joined" ({ cls := "java/lang/Object", name := "hashCode", desc := "()I" } : Jvm.MethodName) ({ cls := "java/lang/Object", name := "hashCode", desc := "()I" } : Jvm.MethodName)) ∈ lw_all := lw_g (lw_at lw_m4 211 rfl) rfl
theorem q1154 : (Jvm.Cond.selects "GridTable$Joined" ({ cls := "java/lang/Object", name := "equals", desc := "(Ljava/lang/Object;)Z" } : Jvm.MethodName) ({ cls := "java/lang/Object", name := "equals", desc := "(Ljava/lang/Object;)Z" } : Jvm.MethodName)) ∈ lw_all := lw_g (lw_at lw_m5 83 rfl) rfl
theorem q1658 : (Jvm.Cond.instantiable "GridTable$Joined" (3 : Nat)) ∈ lw_all := lw_g (lw_at lw_m7 107 rfl) rfl
theorem q1660 : (Jvm.Cond.instanceMethod ({ cls := "GridTable$Joined", name := "<init>", desc := "(LGridTable$Sign;LGridTable$Sum;LGridTable$Sum;)V" } : Jvm.MethodName)) ∈ lw_all := lw_g (lw_at lw_m7 109 rfl) rfl
theorem q1661 : (Jvm.Cond.code ({ cls := "GridTable$Joined", name := "<init>", desc := "(LGridTable$Sign;LGridTable$Sum;LGridTable$Sum;)V" } : Jvm.MethodName) prog_12_method_1_code (4 : Nat) (Option.none : Option Jvm.ClassFile.FieldType)) ∈ lw_all := lw_g (lw_at lw_m7 110 rfl) rfl
theorem q1662 : (Jvm.Cond.methodLinkNest "GridTable$Joined" (1 : Nat) ({ cls := "GridTable$Sum", name := "<init>", desc := "()V" } : Jvm.MethodName) "GridTable") ∈ lw_tbl := lw_at lw_m7 111 rfl
theorem q1663 : (Jvm.Cond.fieldLink "GridTable$Joined" (7 : Nat) "GridTable$Joined" "sign" "LGridTable$Sign;") ∈ lw_all := lw_g (lw_at lw_m7 112 rfl) rfl
theorem q1664 : (Jvm.Cond.fieldLink "GridTable$Joined" (13 : Nat) "GridTable$Joined" "left" "LGridTable$Sum;") ∈ lw_all := lw_g (lw_at lw_m7 113 rfl) rfl
theorem q1665 : (Jvm.Cond.fieldLink "GridTable$Joined" (17 : Nat) "GridTable$Joined" "right" "LGridTable$Sum;") ∈ lw_all := lw_g (lw_at lw_m7 114 rfl) rfl
theorem q1666 : (Jvm.Cond.laysFinal "GridTable$Joined" "GridTable$Joined" "sign" "LGridTable$Sign;") ∈ lw_all := lw_g (lw_at lw_m7 115 rfl) rfl
theorem q1667 : (Jvm.Cond.soleField "GridTable$Joined" "sign") ∈ lw_all := lw_g (lw_at lw_m7 116 rfl) rfl
theorem q1668 : (Jvm.Cond.laysFinal "GridTable$Joined" "GridTable$Joined" "left" "LGridTable$Sum;") ∈ lw_all := lw_g (lw_at lw_m7 117 rfl) rfl
theorem q1669 : (Jvm.Cond.soleField "GridTable$Joined" "left") ∈ lw_all := lw_g (lw_at lw_m7 118 rfl) rfl
theorem q1670 : (Jvm.Cond.laysFinal "GridTable$Joined" "GridTable$Joined" "right" "LGridTable$Sum;") ∈ lw_all := lw_g (lw_at lw_m7 119 rfl) rfl
theorem q1671 : (Jvm.Cond.soleField "GridTable$Joined" "right") ∈ lw_all := lw_g (lw_at lw_m7 120 rfl) rfl
theorem q1672 : (Jvm.Cond.superclass "GridTable$Joined" "GridTable$Sum") ∈ lw_all := lw_g (lw_at lw_m7 121 rfl) rfl
theorem q1752 : (Jvm.Cond.selects "GridTable$Joined" ({ cls := "GridTable$Sum", name := "of", desc := "(LGridTable$Table;)I" } : Jvm.MethodName) ({ cls := "GridTable$Joined", name := "of", desc := "(LGridTable$Table;)I" } : Jvm.MethodName)) ∈ lw_all := lw_g (lw_at lw_m7 201 rfl) rfl
theorem q1753 : (Jvm.Cond.instanceMethod ({ cls := "GridTable$Joined", name := "of", desc := "(LGridTable$Table;)I" } : Jvm.MethodName)) ∈ lw_all := lw_g (lw_at lw_m7 202 rfl) rfl
theorem q1754 : (Jvm.Cond.code ({ cls := "GridTable$Joined", name := "of", desc := "(LGridTable$Table;)I" } : Jvm.MethodName) prog_12_method_2_code (2 : Nat) (Option.some Jvm.ClassFile.FieldType.int)) ∈ lw_all := lw_g (lw_at lw_m7 203 rfl) rfl
theorem q1755 : (Jvm.Cond.methodLink "GridTable$Joined" (20 : Nat) ({ cls := "GridTable$Sum", name := "of", desc := "(LGridTable$Table;)I" } : Jvm.MethodName)) ∈ lw_all := lw_g (lw_at lw_m7 204 rfl) rfl
theorem q1761 : (Jvm.Cond.methodLink "GridTable$Joined" (24 : Nat) ({ cls := "GridTable$Sign", name := "join", desc := "(II)I" } : Jvm.MethodName)) ∈ lw_all := lw_g (lw_at lw_m7 210 rfl) rfl
theorem q3322 : (Jvm.Cond.castable "GridTable$Joined" "GridTable$Sum") ∈ lw_tbl := lw_at lw_m14 91 rfl
theorem q3358 : (Jvm.Cond.castable "GridTable$Joined" "java/lang/Object") ∈ lw_tbl := lw_at lw_m14 127 rfl
theorem in_X16 : ∀ w ∈ wsX160, w ∈ lw_all := lw_in wsX160 [1666, 1668, 1670] (by decide +kernel) (by decide +kernel)

/-! java/util/HashMap$Node -/
set_option maxRecDepth 100000
def RJ27 : String := "java/util/HashMap$Node"
def TJ27 : u_T := fun k => match k with
  | 0 => ("java/util/HashMap$Node", "hash", "I", true)
  | 1 => ("java/util/HashMap$Node", "key", "Ljava/lang/Object;", true)
  | 2 => ("java/util/HashMap$Node", "value", "Ljava/lang/Object;", false)
  | _ => ("java/util/HashMap$Node", "next", "Ljava/util/HashMap$Node;", false)
def tyJ27 : Nat → FieldType := fun k => match k with
  | 0 => .int
  | 1 => .object "java/lang/Object"
  | 2 => .object "java/lang/Object"
  | _ => .object "java/util/HashMap$Node"
abbrev wsJ270 : List Cond := u_ws RJ27 TJ27 4
theorem nmJ27 : ∀ a, a < 4 → ∀ b, b < 4 → a ≠ b → (TJ27 a).2.1 ≠ (TJ27 b).2.1 := by decide +kernel
theorem tyJ27_ok : ∀ k, k < 4 → parseFieldDescriptor (TJ27 k).2.2.1 = some (tyJ27 k) := by decide +kernel
abbrev cJ27_init : ByteArray := prog_80_method_1_code
def yJ27_init : MethodName := ⟨RJ27, "<init>", "(ILjava/lang/Object;Ljava/lang/Object;Ljava/util/HashMap$Node;)V"⟩
def dkwJ27_init_1 : List UInt8 := [181, 0, 20, 177]
abbrev dktJ27_init_1 : List UInt8 := dkwJ27_init_1 ++ []
def dkwJ27_init_0 : List UInt8 := [42, 183, 0, 1, 42, 27, 181, 0, 7, 42, 44, 181, 0, 13, 42, 45, 181, 0, 17, 42, 25, 4]
abbrev dktJ27_init_0 : List UInt8 := dkwJ27_init_0 ++ dktJ27_init_1
theorem dksJ27_init_0 : cJ27_init.data.toList.drop 0 = dktJ27_init_0 := by decide +kernel
theorem dksJ27_init_1 : cJ27_init.data.toList.drop 22 = dktJ27_init_1 := dk_seg dksJ27_init_0 22 rfl rfl
theorem dJ27_init_0 : decode cJ27_init 0 = .ok (.aload_n 0, 1) := dk_42 (dk_at dksJ27_init_0 0 rfl rfl)
theorem dJ27_init_1 : decode cJ27_init 1 = .ok (.invokespecial 1, 3) := dk_183 0 1 (dk_at dksJ27_init_0 1 rfl rfl)
theorem dJ27_init_4 : decode cJ27_init 4 = .ok (.aload_n 0, 1) := dk_42 (dk_at dksJ27_init_0 4 rfl rfl)
theorem dJ27_init_5 : decode cJ27_init 5 = .ok (.iload_n 1, 1) := dk_27 (dk_at dksJ27_init_0 5 rfl rfl)
theorem dJ27_init_6 : decode cJ27_init 6 = .ok (.putfield 7, 3) := dk_181 0 7 (dk_at dksJ27_init_0 6 rfl rfl)
theorem dJ27_init_9 : decode cJ27_init 9 = .ok (.aload_n 0, 1) := dk_42 (dk_at dksJ27_init_0 9 rfl rfl)
theorem dJ27_init_10 : decode cJ27_init 10 = .ok (.aload_n 2, 1) := dk_44 (dk_at dksJ27_init_0 10 rfl rfl)
theorem dJ27_init_11 : decode cJ27_init 11 = .ok (.putfield 13, 3) := dk_181 0 13 (dk_at dksJ27_init_0 11 rfl rfl)
theorem dJ27_init_14 : decode cJ27_init 14 = .ok (.aload_n 0, 1) := dk_42 (dk_at dksJ27_init_0 14 rfl rfl)
theorem dJ27_init_15 : decode cJ27_init 15 = .ok (.aload_n 3, 1) := dk_45 (dk_at dksJ27_init_0 15 rfl rfl)
theorem dJ27_init_16 : decode cJ27_init 16 = .ok (.putfield 17, 3) := dk_181 0 17 (dk_at dksJ27_init_0 16 rfl rfl)
theorem dJ27_init_19 : decode cJ27_init 19 = .ok (.aload_n 0, 1) := dk_42 (dk_at dksJ27_init_0 19 rfl rfl)
theorem dJ27_init_20 : decode cJ27_init 20 = .ok (.aload 4, 2) := dk_25 4 (dk_at dksJ27_init_0 20 rfl rfl)
theorem dJ27_init_22 : decode cJ27_init 22 = .ok (.putfield 20, 3) := dk_181 0 20 (dk_at dksJ27_init_1 0 rfl rfl)
theorem dJ27_init_25 : decode cJ27_init 25 = .ok (.return_, 1) := dk_177 (dk_at dksJ27_init_1 3 rfl rfl)
theorem q162 : (Jvm.Cond.initialized "java/util/HashMap$Node") ∈ lw_all := lw_g (lw_at lw_m1 51 rfl) rfl
theorem q850 : (Jvm.Cond.selects "java/util/HashMap$Node" ({ cls := "java/lang/Object", name := "getClass", desc := "()Ljava/lang/Class;" } : Jvm.MethodName) ({ cls := "java/lang/Object", name := "getClass", desc := "()Ljava/lang/Class;" } : Jvm.MethodName)) ∈ lw_all := lw_g (lw_at lw_m4 19 rfl) rfl
theorem q1835 : (Jvm.Cond.instantiable "java/util/HashMap$Node" (4 : Nat)) ∈ lw_all := lw_g (lw_at lw_m8 44 rfl) rfl
theorem q1837 : (Jvm.Cond.instanceMethod ({ cls := "java/util/HashMap$Node", name := "<init>", desc := "(ILjava/lang/Object;Ljava/lang/Object;Ljava/util/HashMap$Node;)V" } : Jvm.MethodName)) ∈ lw_all := lw_g (lw_at lw_m8 46 rfl) rfl
theorem q1838 : (Jvm.Cond.code ({ cls := "java/util/HashMap$Node", name := "<init>", desc := "(ILjava/lang/Object;Ljava/lang/Object;Ljava/util/HashMap$Node;)V" } : Jvm.MethodName) prog_80_method_1_code (5 : Nat) (Option.none : Option Jvm.ClassFile.FieldType)) ∈ lw_all := lw_g (lw_at lw_m8 47 rfl) rfl
theorem q1839 : (Jvm.Cond.methodLink "java/util/HashMap$Node" (1 : Nat) ({ cls := "java/lang/Object", name := "<init>", desc := "()V" } : Jvm.MethodName)) ∈ lw_all := lw_g (lw_at lw_m8 48 rfl) rfl
theorem q1840 : (Jvm.Cond.fieldLink "java/util/HashMap$Node" (7 : Nat) "java/util/HashMap$Node" "hash" "I") ∈ lw_all := lw_g (lw_at lw_m8 49 rfl) rfl
theorem q1844 : (Jvm.Cond.fieldLink "java/util/HashMap$Node" (13 : Nat) "java/util/HashMap$Node" "key" "Ljava/lang/Object;") ∈ lw_all := lw_g (lw_at lw_m8 53 rfl) rfl
theorem q1848 : (Jvm.Cond.fieldLink "java/util/HashMap$Node" (17 : Nat) "java/util/HashMap$Node" "value" "Ljava/lang/Object;") ∈ lw_all := lw_g (lw_at lw_m8 57 rfl) rfl
theorem q1850 : (Jvm.Cond.fieldLink "java/util/HashMap$Node" (20 : Nat) "java/util/HashMap$Node" "next" "Ljava/util/HashMap$Node;") ∈ lw_all := lw_g (lw_at lw_m8 59 rfl) rfl
theorem q1856 : (Jvm.Cond.laysFinal "java/util/HashMap$Node" "java/util/HashMap$Node" "hash" "I") ∈ lw_all := lw_g (lw_at lw_m8 65 rfl) rfl
theorem q1857 : (Jvm.Cond.soleField "java/util/HashMap$Node" "hash") ∈ lw_all := lw_g (lw_at lw_m8 66 rfl) rfl
theorem q1858 : (Jvm.Cond.laysFinal "java/util/HashMap$Node" "java/util/HashMap$Node" "key" "Ljava/lang/Object;") ∈ lw_all := lw_g (lw_at lw_m8 67 rfl) rfl
theorem q1859 : (Jvm.Cond.soleField "java/util/HashMap$Node" "key") ∈ lw_all := lw_g (lw_at lw_m8 68 rfl) rfl
theorem q1860 : (Jvm.Cond.lays "java/util/HashMap$Node" "java/util/HashMap$Node" "value" "Ljava/lang/Object;") ∈ lw_all := lw_g (lw_at lw_m8 69 rfl) rfl
theorem q1861 : (Jvm.Cond.soleField "java/util/HashMap$Node" "value") ∈ lw_all := lw_g (lw_at lw_m8 70 rfl) rfl
theorem q1862 : (Jvm.Cond.lays "java/util/HashMap$Node" "java/util/HashMap$Node" "next" "Ljava/util/HashMap$Node;") ∈ lw_all := lw_g (lw_at lw_m8 71 rfl) rfl
theorem q1863 : (Jvm.Cond.soleField "java/util/HashMap$Node" "next") ∈ lw_all := lw_g (lw_at lw_m8 72 rfl) rfl
theorem q1864 : (Jvm.Cond.superclass "java/util/HashMap$Node" "java/lang/Object") ∈ lw_all := lw_g (lw_at lw_m8 73 rfl) rfl
theorem q3325 : (Jvm.Cond.castable "java/util/HashMap$Node" "java/lang/Object") ∈ lw_tbl := lw_at lw_m14 94 rfl
theorem in_J27 : ∀ w ∈ wsJ270, w ∈ lw_all := lw_in wsJ270 [1856, 1858, 1860, 1862] (by decide +kernel) (by decide +kernel)

/-! java/util/LinkedHashMap$Entry -/
set_option maxRecDepth 100000
def RJ28 : String := "java/util/LinkedHashMap$Entry"
abbrev cJ28_init : ByteArray := prog_83_method_1_code
def yJ28_init : MethodName := ⟨RJ28, "<init>", "(ILjava/lang/Object;Ljava/lang/Object;Ljava/util/HashMap$Node;)V"⟩
def dkwJ28_init_0 : List UInt8 := [42, 27, 44, 45, 25, 4, 183, 0, 1, 177]
abbrev dktJ28_init_0 : List UInt8 := dkwJ28_init_0 ++ []
theorem dksJ28_init_0 : cJ28_init.data.toList.drop 0 = dktJ28_init_0 := by decide +kernel
theorem dJ28_init_0 : decode cJ28_init 0 = .ok (.aload_n 0, 1) := dk_42 (dk_at dksJ28_init_0 0 rfl rfl)
theorem dJ28_init_1 : decode cJ28_init 1 = .ok (.iload_n 1, 1) := dk_27 (dk_at dksJ28_init_0 1 rfl rfl)
theorem dJ28_init_2 : decode cJ28_init 2 = .ok (.aload_n 2, 1) := dk_44 (dk_at dksJ28_init_0 2 rfl rfl)
theorem dJ28_init_3 : decode cJ28_init 3 = .ok (.aload_n 3, 1) := dk_45 (dk_at dksJ28_init_0 3 rfl rfl)
theorem dJ28_init_4 : decode cJ28_init 4 = .ok (.aload 4, 2) := dk_25 4 (dk_at dksJ28_init_0 4 rfl rfl)
theorem dJ28_init_6 : decode cJ28_init 6 = .ok (.invokespecial 1, 3) := dk_183 0 1 (dk_at dksJ28_init_0 6 rfl rfl)
theorem dJ28_init_9 : decode cJ28_init 9 = .ok (.return_, 1) := dk_177 (dk_at dksJ28_init_0 9 rfl rfl)
theorem q163 : (Jvm.Cond.initialized "java/util/LinkedHashMap$Entry") ∈ lw_all := lw_g (lw_at lw_m1 52 rfl) rfl
theorem q1900 : (Jvm.Cond.instanceMethod ({ cls := "java/util/LinkedHashMap$Entry", name := "<init>", desc := "(ILjava/lang/Object;Ljava/lang/Object;Ljava/util/HashMap$Node;)V" } : Jvm.MethodName)) ∈ lw_all := lw_g (lw_at lw_m8 109 rfl) rfl
theorem q1901 : (Jvm.Cond.code ({ cls := "java/util/LinkedHashMap$Entry", name := "<init>", desc := "(ILjava/lang/Object;Ljava/lang/Object;Ljava/util/HashMap$Node;)V" } : Jvm.MethodName) prog_83_method_1_code (5 : Nat) (Option.none : Option Jvm.ClassFile.FieldType)) ∈ lw_all := lw_g (lw_at lw_m8 110 rfl) rfl
theorem q1902 : (Jvm.Cond.methodLink "java/util/LinkedHashMap$Entry" (1 : Nat) ({ cls := "java/util/HashMap$Node", name := "<init>", desc := "(ILjava/lang/Object;Ljava/lang/Object;Ljava/util/HashMap$Node;)V" } : Jvm.MethodName)) ∈ lw_all := lw_g (lw_at lw_m8 111 rfl) rfl
theorem q1920 : (Jvm.Cond.soleField "java/util/LinkedHashMap$Entry" "before") ∈ lw_all := lw_g (lw_at lw_m8 129 rfl) rfl
theorem q1922 : (Jvm.Cond.soleField "java/util/LinkedHashMap$Entry" "after") ∈ lw_all := lw_g (lw_at lw_m8 131 rfl) rfl

