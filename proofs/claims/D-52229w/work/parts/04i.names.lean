/-! java/util/HashMap$TreeNode -/
set_option maxRecDepth 100000
def RJ29 : String := "java/util/HashMap$TreeNode"
def TJ29 : u_T := fun k => match k with
  | 0 => ("java/util/LinkedHashMap$Entry", "before", "Ljava/util/LinkedHashMap$Entry;", false)
  | 1 => ("java/util/LinkedHashMap$Entry", "after", "Ljava/util/LinkedHashMap$Entry;", false)
  | 2 => ("java/util/HashMap$Node", "hash", "I", true)
  | 3 => ("java/util/HashMap$Node", "key", "Ljava/lang/Object;", true)
  | 4 => ("java/util/HashMap$Node", "value", "Ljava/lang/Object;", false)
  | 5 => ("java/util/HashMap$Node", "next", "Ljava/util/HashMap$Node;", false)
  | 6 => ("java/util/HashMap$TreeNode", "parent", "Ljava/util/HashMap$TreeNode;", false)
  | 7 => ("java/util/HashMap$TreeNode", "left", "Ljava/util/HashMap$TreeNode;", false)
  | 8 => ("java/util/HashMap$TreeNode", "right", "Ljava/util/HashMap$TreeNode;", false)
  | 9 => ("java/util/HashMap$TreeNode", "prev", "Ljava/util/HashMap$TreeNode;", false)
  | _ => ("java/util/HashMap$TreeNode", "red", "Z", false)
def tyJ29 : Nat → FieldType := fun k => match k with
  | 0 => .object "java/util/LinkedHashMap$Entry"
  | 1 => .object "java/util/LinkedHashMap$Entry"
  | 2 => .int
  | 3 => .object "java/lang/Object"
  | 4 => .object "java/lang/Object"
  | 5 => .object "java/util/HashMap$Node"
  | 6 => .object "java/util/HashMap$TreeNode"
  | 7 => .object "java/util/HashMap$TreeNode"
  | 8 => .object "java/util/HashMap$TreeNode"
  | 9 => .object "java/util/HashMap$TreeNode"
  | _ => .boolean
abbrev wsJ290 : List Cond := u_ws RJ29 TJ29 11
theorem nmJ29 : ∀ a, a < 11 → ∀ b, b < 11 → a ≠ b → (TJ29 a).2.1 ≠ (TJ29 b).2.1 := by decide +kernel
theorem tyJ29_ok : ∀ k, k < 11 → parseFieldDescriptor (TJ29 k).2.2.1 = some (tyJ29 k) := by decide +kernel
abbrev cJ29_getTreeNode : ByteArray := prog_81_method_5_code
def yJ29_getTreeNode : MethodName := ⟨RJ29, "getTreeNode", "(ILjava/lang/Object;)Ljava/util/HashMap$TreeNode;"⟩
def dkwJ29_getTreeNode_0 : List UInt8 := [42, 180, 0, 9, 198, 0, 10, 42, 182, 0, 67, 167, 0, 4, 42, 27, 44, 1, 182, 0, 63, 176]
abbrev dktJ29_getTreeNode_0 : List UInt8 := dkwJ29_getTreeNode_0 ++ []
theorem dksJ29_getTreeNode_0 : cJ29_getTreeNode.data.toList.drop 0 = dktJ29_getTreeNode_0 := by decide +kernel
theorem dJ29_getTreeNode_0 : decode cJ29_getTreeNode 0 = .ok (.aload_n 0, 1) := dk_42 (dk_at dksJ29_getTreeNode_0 0 rfl rfl)
theorem dJ29_getTreeNode_1 : decode cJ29_getTreeNode 1 = .ok (.getfield 9, 3) := dk_180 0 9 (dk_at dksJ29_getTreeNode_0 1 rfl rfl)
theorem dJ29_getTreeNode_4 : decode cJ29_getTreeNode 4 = .ok (.ifnull 10, 3) := dk_198 0 10 (dk_at dksJ29_getTreeNode_0 4 rfl rfl)
theorem dJ29_getTreeNode_7 : decode cJ29_getTreeNode 7 = .ok (.aload_n 0, 1) := dk_42 (dk_at dksJ29_getTreeNode_0 7 rfl rfl)
theorem dJ29_getTreeNode_8 : decode cJ29_getTreeNode 8 = .ok (.invokevirtual 67, 3) := dk_182 0 67 (dk_at dksJ29_getTreeNode_0 8 rfl rfl)
theorem dJ29_getTreeNode_11 : decode cJ29_getTreeNode 11 = .ok (.goto 4, 3) := dk_167 0 4 (dk_at dksJ29_getTreeNode_0 11 rfl rfl)
theorem dJ29_getTreeNode_14 : decode cJ29_getTreeNode 14 = .ok (.aload_n 0, 1) := dk_42 (dk_at dksJ29_getTreeNode_0 14 rfl rfl)
theorem dJ29_getTreeNode_15 : decode cJ29_getTreeNode 15 = .ok (.iload_n 1, 1) := dk_27 (dk_at dksJ29_getTreeNode_0 15 rfl rfl)
theorem dJ29_getTreeNode_16 : decode cJ29_getTreeNode 16 = .ok (.aload_n 2, 1) := dk_44 (dk_at dksJ29_getTreeNode_0 16 rfl rfl)
theorem dJ29_getTreeNode_17 : decode cJ29_getTreeNode 17 = .ok (.aconst_null, 1) := dk_1 (dk_at dksJ29_getTreeNode_0 17 rfl rfl)
theorem dJ29_getTreeNode_18 : decode cJ29_getTreeNode 18 = .ok (.invokevirtual 63, 3) := dk_182 0 63 (dk_at dksJ29_getTreeNode_0 18 rfl rfl)
theorem dJ29_getTreeNode_21 : decode cJ29_getTreeNode 21 = .ok (.areturn, 1) := dk_176 (dk_at dksJ29_getTreeNode_0 21 rfl rfl)
abbrev cJ29_root : ByteArray := prog_81_method_2_code
def yJ29_root : MethodName := ⟨RJ29, "root", "()Ljava/util/HashMap$TreeNode;"⟩
def dkwJ29_root_0 : List UInt8 := [42, 76, 43, 180, 0, 9, 89, 77, 199, 0, 5, 43, 176, 44, 76, 167, 255, 243]
abbrev dktJ29_root_0 : List UInt8 := dkwJ29_root_0 ++ []
theorem dksJ29_root_0 : cJ29_root.data.toList.drop 0 = dktJ29_root_0 := by decide +kernel
theorem dJ29_root_0 : decode cJ29_root 0 = .ok (.aload_n 0, 1) := dk_42 (dk_at dksJ29_root_0 0 rfl rfl)
theorem dJ29_root_1 : decode cJ29_root 1 = .ok (.astore_n 1, 1) := dk_76 (dk_at dksJ29_root_0 1 rfl rfl)
theorem dJ29_root_2 : decode cJ29_root 2 = .ok (.aload_n 1, 1) := dk_43 (dk_at dksJ29_root_0 2 rfl rfl)
theorem dJ29_root_3 : decode cJ29_root 3 = .ok (.getfield 9, 3) := dk_180 0 9 (dk_at dksJ29_root_0 3 rfl rfl)
theorem dJ29_root_6 : decode cJ29_root 6 = .ok (.dup, 1) := dk_89 (dk_at dksJ29_root_0 6 rfl rfl)
theorem dJ29_root_7 : decode cJ29_root 7 = .ok (.astore_n 2, 1) := dk_77 (dk_at dksJ29_root_0 7 rfl rfl)
theorem dJ29_root_8 : decode cJ29_root 8 = .ok (.ifnonnull 5, 3) := dk_199 0 5 (dk_at dksJ29_root_0 8 rfl rfl)
theorem dJ29_root_11 : decode cJ29_root 11 = .ok (.aload_n 1, 1) := dk_43 (dk_at dksJ29_root_0 11 rfl rfl)
theorem dJ29_root_12 : decode cJ29_root 12 = .ok (.areturn, 1) := dk_176 (dk_at dksJ29_root_0 12 rfl rfl)
theorem dJ29_root_13 : decode cJ29_root 13 = .ok (.aload_n 2, 1) := dk_44 (dk_at dksJ29_root_0 13 rfl rfl)
theorem dJ29_root_14 : decode cJ29_root 14 = .ok (.astore_n 1, 1) := dk_76 (dk_at dksJ29_root_0 14 rfl rfl)
theorem dJ29_root_15 : decode cJ29_root 15 = .ok (.goto (-13), 3) := dk_167 255 243 (dk_at dksJ29_root_0 15 rfl rfl)
abbrev cJ29_find : ByteArray := prog_81_method_4_code
def yJ29_find : MethodName := ⟨RJ29, "find", "(ILjava/lang/Object;Ljava/lang/Class;)Ljava/util/HashMap$TreeNode;"⟩
def dkwJ29_find_7 : List UInt8 := [58, 4, 25, 4, 199, 255, 92, 1, 176]
abbrev dktJ29_find_7 : List UInt8 := dkwJ29_find_7 ++ []
def dkwJ29_find_6 : List UInt8 := [58, 4, 167, 0, 24, 25, 9, 27, 44, 45, 182, 0, 63, 89, 58, 10, 198, 0, 6, 25, 10, 176, 25, 8]
abbrev dktJ29_find_6 : List UInt8 := dkwJ29_find_6 ++ dktJ29_find_7
def dkwJ29_find_5 : List UInt8 := [44, 25, 7, 184, 0, 59, 89, 54, 6, 153, 0, 20, 21, 6, 156, 0, 8, 25, 8, 167, 0, 5, 25, 9]
abbrev dktJ29_find_5 : List UInt8 := dkwJ29_find_5 ++ dktJ29_find_6
def dkwJ29_find_4 : List UInt8 := [199, 0, 10, 25, 8, 58, 4, 167, 0, 67, 45, 199, 0, 12, 44, 184, 0, 55, 89, 78, 198, 0, 33, 45]
abbrev dktJ29_find_4 : List UInt8 := dkwJ29_find_4 ++ dktJ29_find_5
def dkwJ29_find_3 : List UInt8 := [182, 0, 49, 153, 0, 6, 25, 4, 176, 25, 8, 199, 0, 10, 25, 9, 58, 4, 167, 0, 79, 25, 9]
abbrev dktJ29_find_3 : List UInt8 := dkwJ29_find_3 ++ dktJ29_find_4
def dkwJ29_find_2 : List UInt8 := [167, 0, 119, 25, 4, 180, 0, 45, 89, 58, 7, 44, 165, 0, 16, 44, 198, 0, 15, 44, 25, 7]
abbrev dktJ29_find_2 : List UInt8 := dkwJ29_find_2 ++ dktJ29_find_3
def dkwJ29_find_1 : List UInt8 := [54, 5, 27, 164, 0, 10, 25, 8, 58, 4, 167, 0, 132, 21, 5, 27, 162, 0, 10, 25, 9, 58, 4]
abbrev dktJ29_find_1 : List UInt8 := dkwJ29_find_1 ++ dktJ29_find_2
def dkwJ29_find_0 : List UInt8 := [42, 58, 4, 25, 4, 180, 0, 39, 58, 8, 25, 4, 180, 0, 42, 58, 9, 25, 4, 180, 0, 15, 89]
abbrev dktJ29_find_0 : List UInt8 := dkwJ29_find_0 ++ dktJ29_find_1
theorem dksJ29_find_0 : cJ29_find.data.toList.drop 0 = dktJ29_find_0 := by decide +kernel
theorem dksJ29_find_1 : cJ29_find.data.toList.drop 23 = dktJ29_find_1 := dk_seg dksJ29_find_0 23 rfl rfl
theorem dksJ29_find_2 : cJ29_find.data.toList.drop 46 = dktJ29_find_2 := dk_seg dksJ29_find_1 23 rfl rfl
theorem dksJ29_find_3 : cJ29_find.data.toList.drop 68 = dktJ29_find_3 := dk_seg dksJ29_find_2 22 rfl rfl
theorem dksJ29_find_4 : cJ29_find.data.toList.drop 91 = dktJ29_find_4 := dk_seg dksJ29_find_3 23 rfl rfl
theorem dksJ29_find_5 : cJ29_find.data.toList.drop 115 = dktJ29_find_5 := dk_seg dksJ29_find_4 24 rfl rfl
theorem dksJ29_find_6 : cJ29_find.data.toList.drop 139 = dktJ29_find_6 := dk_seg dksJ29_find_5 24 rfl rfl
theorem dksJ29_find_7 : cJ29_find.data.toList.drop 163 = dktJ29_find_7 := dk_seg dksJ29_find_6 24 rfl rfl
theorem dJ29_find_0 : decode cJ29_find 0 = .ok (.aload_n 0, 1) := dk_42 (dk_at dksJ29_find_0 0 rfl rfl)
theorem dJ29_find_1 : decode cJ29_find 1 = .ok (.astore 4, 2) := dk_58 4 (dk_at dksJ29_find_0 1 rfl rfl)
theorem dJ29_find_3 : decode cJ29_find 3 = .ok (.aload 4, 2) := dk_25 4 (dk_at dksJ29_find_0 3 rfl rfl)
theorem dJ29_find_5 : decode cJ29_find 5 = .ok (.getfield 39, 3) := dk_180 0 39 (dk_at dksJ29_find_0 5 rfl rfl)
theorem dJ29_find_8 : decode cJ29_find 8 = .ok (.astore 8, 2) := dk_58 8 (dk_at dksJ29_find_0 8 rfl rfl)
theorem dJ29_find_10 : decode cJ29_find 10 = .ok (.aload 4, 2) := dk_25 4 (dk_at dksJ29_find_0 10 rfl rfl)
theorem dJ29_find_12 : decode cJ29_find 12 = .ok (.getfield 42, 3) := dk_180 0 42 (dk_at dksJ29_find_0 12 rfl rfl)
theorem dJ29_find_15 : decode cJ29_find 15 = .ok (.astore 9, 2) := dk_58 9 (dk_at dksJ29_find_0 15 rfl rfl)
theorem dJ29_find_17 : decode cJ29_find 17 = .ok (.aload 4, 2) := dk_25 4 (dk_at dksJ29_find_0 17 rfl rfl)
theorem dJ29_find_19 : decode cJ29_find 19 = .ok (.getfield 15, 3) := dk_180 0 15 (dk_at dksJ29_find_0 19 rfl rfl)
theorem dJ29_find_22 : decode cJ29_find 22 = .ok (.dup, 1) := dk_89 (dk_at dksJ29_find_0 22 rfl rfl)
theorem dJ29_find_23 : decode cJ29_find 23 = .ok (.istore 5, 2) := dk_54 5 (dk_at dksJ29_find_1 0 rfl rfl)
theorem dJ29_find_25 : decode cJ29_find 25 = .ok (.iload_n 1, 1) := dk_27 (dk_at dksJ29_find_1 2 rfl rfl)
theorem dJ29_find_26 : decode cJ29_find 26 = .ok (.if_icmp .le 10, 3) := dk_164 0 10 (dk_at dksJ29_find_1 3 rfl rfl)
theorem dJ29_find_29 : decode cJ29_find 29 = .ok (.aload 8, 2) := dk_25 8 (dk_at dksJ29_find_1 6 rfl rfl)
theorem dJ29_find_31 : decode cJ29_find 31 = .ok (.astore 4, 2) := dk_58 4 (dk_at dksJ29_find_1 8 rfl rfl)
theorem dJ29_find_33 : decode cJ29_find 33 = .ok (.goto 132, 3) := dk_167 0 132 (dk_at dksJ29_find_1 10 rfl rfl)
theorem dJ29_find_36 : decode cJ29_find 36 = .ok (.iload 5, 2) := dk_21 5 (dk_at dksJ29_find_1 13 rfl rfl)
theorem dJ29_find_38 : decode cJ29_find 38 = .ok (.iload_n 1, 1) := dk_27 (dk_at dksJ29_find_1 15 rfl rfl)
theorem dJ29_find_39 : decode cJ29_find 39 = .ok (.if_icmp .ge 10, 3) := dk_162 0 10 (dk_at dksJ29_find_1 16 rfl rfl)
theorem dJ29_find_42 : decode cJ29_find 42 = .ok (.aload 9, 2) := dk_25 9 (dk_at dksJ29_find_1 19 rfl rfl)
theorem dJ29_find_44 : decode cJ29_find 44 = .ok (.astore 4, 2) := dk_58 4 (dk_at dksJ29_find_1 21 rfl rfl)
theorem dJ29_find_46 : decode cJ29_find 46 = .ok (.goto 119, 3) := dk_167 0 119 (dk_at dksJ29_find_2 0 rfl rfl)
theorem dJ29_find_49 : decode cJ29_find 49 = .ok (.aload 4, 2) := dk_25 4 (dk_at dksJ29_find_2 3 rfl rfl)
theorem dJ29_find_51 : decode cJ29_find 51 = .ok (.getfield 45, 3) := dk_180 0 45 (dk_at dksJ29_find_2 5 rfl rfl)
theorem dJ29_find_54 : decode cJ29_find 54 = .ok (.dup, 1) := dk_89 (dk_at dksJ29_find_2 8 rfl rfl)
theorem dJ29_find_55 : decode cJ29_find 55 = .ok (.astore 7, 2) := dk_58 7 (dk_at dksJ29_find_2 9 rfl rfl)
theorem dJ29_find_57 : decode cJ29_find 57 = .ok (.aload_n 2, 1) := dk_44 (dk_at dksJ29_find_2 11 rfl rfl)
theorem dJ29_find_58 : decode cJ29_find 58 = .ok (.if_acmp .eq 16, 3) := dk_165 0 16 (dk_at dksJ29_find_2 12 rfl rfl)
theorem dJ29_find_61 : decode cJ29_find 61 = .ok (.aload_n 2, 1) := dk_44 (dk_at dksJ29_find_2 15 rfl rfl)
theorem dJ29_find_62 : decode cJ29_find 62 = .ok (.ifnull 15, 3) := dk_198 0 15 (dk_at dksJ29_find_2 16 rfl rfl)
theorem dJ29_find_65 : decode cJ29_find 65 = .ok (.aload_n 2, 1) := dk_44 (dk_at dksJ29_find_2 19 rfl rfl)
theorem dJ29_find_66 : decode cJ29_find 66 = .ok (.aload 7, 2) := dk_25 7 (dk_at dksJ29_find_2 20 rfl rfl)
theorem dJ29_find_68 : decode cJ29_find 68 = .ok (.invokevirtual 49, 3) := dk_182 0 49 (dk_at dksJ29_find_3 0 rfl rfl)
theorem dJ29_find_71 : decode cJ29_find 71 = .ok (.ifCond .eq 6, 3) := dk_153 0 6 (dk_at dksJ29_find_3 3 rfl rfl)
theorem dJ29_find_74 : decode cJ29_find 74 = .ok (.aload 4, 2) := dk_25 4 (dk_at dksJ29_find_3 6 rfl rfl)
theorem dJ29_find_76 : decode cJ29_find 76 = .ok (.areturn, 1) := dk_176 (dk_at dksJ29_find_3 8 rfl rfl)
theorem dJ29_find_77 : decode cJ29_find 77 = .ok (.aload 8, 2) := dk_25 8 (dk_at dksJ29_find_3 9 rfl rfl)
theorem dJ29_find_79 : decode cJ29_find 79 = .ok (.ifnonnull 10, 3) := dk_199 0 10 (dk_at dksJ29_find_3 11 rfl rfl)
theorem dJ29_find_82 : decode cJ29_find 82 = .ok (.aload 9, 2) := dk_25 9 (dk_at dksJ29_find_3 14 rfl rfl)
theorem dJ29_find_84 : decode cJ29_find 84 = .ok (.astore 4, 2) := dk_58 4 (dk_at dksJ29_find_3 16 rfl rfl)
theorem dJ29_find_86 : decode cJ29_find 86 = .ok (.goto 79, 3) := dk_167 0 79 (dk_at dksJ29_find_3 18 rfl rfl)
theorem dJ29_find_89 : decode cJ29_find 89 = .ok (.aload 9, 2) := dk_25 9 (dk_at dksJ29_find_3 21 rfl rfl)
theorem dJ29_find_91 : decode cJ29_find 91 = .ok (.ifnonnull 10, 3) := dk_199 0 10 (dk_at dksJ29_find_4 0 rfl rfl)
theorem dJ29_find_94 : decode cJ29_find 94 = .ok (.aload 8, 2) := dk_25 8 (dk_at dksJ29_find_4 3 rfl rfl)
theorem dJ29_find_96 : decode cJ29_find 96 = .ok (.astore 4, 2) := dk_58 4 (dk_at dksJ29_find_4 5 rfl rfl)
theorem dJ29_find_98 : decode cJ29_find 98 = .ok (.goto 67, 3) := dk_167 0 67 (dk_at dksJ29_find_4 7 rfl rfl)
theorem dJ29_find_101 : decode cJ29_find 101 = .ok (.aload_n 3, 1) := dk_45 (dk_at dksJ29_find_4 10 rfl rfl)
theorem dJ29_find_102 : decode cJ29_find 102 = .ok (.ifnonnull 12, 3) := dk_199 0 12 (dk_at dksJ29_find_4 11 rfl rfl)
theorem dJ29_find_105 : decode cJ29_find 105 = .ok (.aload_n 2, 1) := dk_44 (dk_at dksJ29_find_4 14 rfl rfl)
theorem dJ29_find_106 : decode cJ29_find 106 = .ok (.invokestatic 55, 3) := dk_184 0 55 (dk_at dksJ29_find_4 15 rfl rfl)
theorem dJ29_find_109 : decode cJ29_find 109 = .ok (.dup, 1) := dk_89 (dk_at dksJ29_find_4 18 rfl rfl)
theorem dJ29_find_110 : decode cJ29_find 110 = .ok (.astore_n 3, 1) := dk_78 (dk_at dksJ29_find_4 19 rfl rfl)
theorem dJ29_find_111 : decode cJ29_find 111 = .ok (.ifnull 33, 3) := dk_198 0 33 (dk_at dksJ29_find_4 20 rfl rfl)
theorem dJ29_find_114 : decode cJ29_find 114 = .ok (.aload_n 3, 1) := dk_45 (dk_at dksJ29_find_4 23 rfl rfl)
theorem dJ29_find_115 : decode cJ29_find 115 = .ok (.aload_n 2, 1) := dk_44 (dk_at dksJ29_find_5 0 rfl rfl)
theorem dJ29_find_116 : decode cJ29_find 116 = .ok (.aload 7, 2) := dk_25 7 (dk_at dksJ29_find_5 1 rfl rfl)
theorem dJ29_find_118 : decode cJ29_find 118 = .ok (.invokestatic 59, 3) := dk_184 0 59 (dk_at dksJ29_find_5 3 rfl rfl)
theorem dJ29_find_121 : decode cJ29_find 121 = .ok (.dup, 1) := dk_89 (dk_at dksJ29_find_5 6 rfl rfl)
theorem dJ29_find_122 : decode cJ29_find 122 = .ok (.istore 6, 2) := dk_54 6 (dk_at dksJ29_find_5 7 rfl rfl)
theorem dJ29_find_124 : decode cJ29_find 124 = .ok (.ifCond .eq 20, 3) := dk_153 0 20 (dk_at dksJ29_find_5 9 rfl rfl)
theorem dJ29_find_127 : decode cJ29_find 127 = .ok (.iload 6, 2) := dk_21 6 (dk_at dksJ29_find_5 12 rfl rfl)
theorem dJ29_find_129 : decode cJ29_find 129 = .ok (.ifCond .ge 8, 3) := dk_156 0 8 (dk_at dksJ29_find_5 14 rfl rfl)
theorem dJ29_find_132 : decode cJ29_find 132 = .ok (.aload 8, 2) := dk_25 8 (dk_at dksJ29_find_5 17 rfl rfl)
theorem dJ29_find_134 : decode cJ29_find 134 = .ok (.goto 5, 3) := dk_167 0 5 (dk_at dksJ29_find_5 19 rfl rfl)
theorem dJ29_find_137 : decode cJ29_find 137 = .ok (.aload 9, 2) := dk_25 9 (dk_at dksJ29_find_5 22 rfl rfl)
theorem dJ29_find_139 : decode cJ29_find 139 = .ok (.astore 4, 2) := dk_58 4 (dk_at dksJ29_find_6 0 rfl rfl)
theorem dJ29_find_141 : decode cJ29_find 141 = .ok (.goto 24, 3) := dk_167 0 24 (dk_at dksJ29_find_6 2 rfl rfl)
theorem dJ29_find_144 : decode cJ29_find 144 = .ok (.aload 9, 2) := dk_25 9 (dk_at dksJ29_find_6 5 rfl rfl)
theorem dJ29_find_146 : decode cJ29_find 146 = .ok (.iload_n 1, 1) := dk_27 (dk_at dksJ29_find_6 7 rfl rfl)
theorem dJ29_find_147 : decode cJ29_find 147 = .ok (.aload_n 2, 1) := dk_44 (dk_at dksJ29_find_6 8 rfl rfl)
theorem dJ29_find_148 : decode cJ29_find 148 = .ok (.aload_n 3, 1) := dk_45 (dk_at dksJ29_find_6 9 rfl rfl)
theorem dJ29_find_149 : decode cJ29_find 149 = .ok (.invokevirtual 63, 3) := dk_182 0 63 (dk_at dksJ29_find_6 10 rfl rfl)
theorem dJ29_find_152 : decode cJ29_find 152 = .ok (.dup, 1) := dk_89 (dk_at dksJ29_find_6 13 rfl rfl)
theorem dJ29_find_153 : decode cJ29_find 153 = .ok (.astore 10, 2) := dk_58 10 (dk_at dksJ29_find_6 14 rfl rfl)
theorem dJ29_find_155 : decode cJ29_find 155 = .ok (.ifnull 6, 3) := dk_198 0 6 (dk_at dksJ29_find_6 16 rfl rfl)
theorem dJ29_find_158 : decode cJ29_find 158 = .ok (.aload 10, 2) := dk_25 10 (dk_at dksJ29_find_6 19 rfl rfl)
theorem dJ29_find_160 : decode cJ29_find 160 = .ok (.areturn, 1) := dk_176 (dk_at dksJ29_find_6 21 rfl rfl)
theorem dJ29_find_161 : decode cJ29_find 161 = .ok (.aload 8, 2) := dk_25 8 (dk_at dksJ29_find_6 22 rfl rfl)
theorem dJ29_find_163 : decode cJ29_find 163 = .ok (.astore 4, 2) := dk_58 4 (dk_at dksJ29_find_7 0 rfl rfl)
theorem dJ29_find_165 : decode cJ29_find 165 = .ok (.aload 4, 2) := dk_25 4 (dk_at dksJ29_find_7 2 rfl rfl)
theorem dJ29_find_167 : decode cJ29_find 167 = .ok (.ifnonnull (-164), 3) := dk_199 255 92 (dk_at dksJ29_find_7 4 rfl rfl)
theorem dJ29_find_170 : decode cJ29_find 170 = .ok (.aconst_null, 1) := dk_1 (dk_at dksJ29_find_7 7 rfl rfl)
theorem dJ29_find_171 : decode cJ29_find 171 = .ok (.areturn, 1) := dk_176 (dk_at dksJ29_find_7 8 rfl rfl)
abbrev cJ29_split : ByteArray := prog_81_method_11_code
def yJ29_split : MethodName := ⟨RJ29, "split", "(Ljava/util/HashMap;[Ljava/util/HashMap$Node;II)V"⟩
def dkwJ29_split_9 : List UInt8 := [198, 0, 9, 25, 8, 44, 182, 0, 126, 177]
abbrev dktJ29_split_9 : List UInt8 := dkwJ29_split_9 ++ []
def dkwJ29_split_8 : List UInt8 := [21, 4, 96, 25, 8, 43, 182, 0, 119, 83, 167, 0, 22, 44, 29, 21, 4, 96, 25, 8, 83, 25, 6]
abbrev dktJ29_split_8 : List UInt8 := dkwJ29_split_8 ++ dktJ29_split_9
def dkwJ29_split_7 : List UInt8 := [198, 0, 9, 25, 6, 44, 182, 0, 126, 25, 8, 198, 0, 44, 21, 11, 16, 6, 163, 0, 18, 44, 29]
abbrev dktJ29_split_7 : List UInt8 := dkwJ29_split_7 ++ dktJ29_split_8
def dkwJ29_split_6 : List UInt8 := [163, 0, 15, 44, 29, 25, 6, 43, 182, 0, 119, 83, 167, 0, 19, 44, 29, 25, 6, 83, 25, 8]
abbrev dktJ29_split_6 : List UInt8 := dkwJ29_split_6 ++ dktJ29_split_7
def dkwJ29_split_5 : List UInt8 := [25, 12, 58, 9, 132, 11, 1, 25, 13, 58, 12, 167, 255, 153, 25, 6, 198, 0, 38, 21, 10, 16, 6]
abbrev dktJ29_split_5 : List UInt8 := dkwJ29_split_5 ++ dktJ29_split_6
def dkwJ29_split_4 : List UInt8 := [25, 9, 90, 181, 0, 19, 199, 0, 10, 25, 12, 58, 8, 167, 0, 10, 25, 9, 25, 12, 181, 0, 22]
abbrev dktJ29_split_4 : List UInt8 := dkwJ29_split_4 ++ dktJ29_split_5
def dkwJ29_split_3 : List UInt8 := [58, 6, 167, 0, 10, 25, 7, 25, 12, 181, 0, 22, 25, 12, 58, 7, 132, 10, 1, 167, 0, 35, 25, 12]
abbrev dktJ29_split_3 : List UInt8 := dkwJ29_split_3 ++ dktJ29_split_4
def dkwJ29_split_2 : List UInt8 := [25, 12, 180, 0, 15, 21, 4, 126, 154, 0, 38, 25, 12, 25, 7, 90, 181, 0, 19, 199, 0, 10, 25, 12]
abbrev dktJ29_split_2 : List UInt8 := dkwJ29_split_2 ++ dktJ29_split_3
def dkwJ29_split_1 : List UInt8 := [58, 12, 25, 12, 198, 0, 104, 25, 12, 180, 0, 22, 192, 0, 10, 58, 13, 25, 12, 1, 181, 0, 22]
abbrev dktJ29_split_1 : List UInt8 := dkwJ29_split_1 ++ dktJ29_split_2
def dkwJ29_split_0 : List UInt8 := [42, 58, 5, 1, 58, 6, 1, 58, 7, 1, 58, 8, 1, 58, 9, 3, 54, 10, 3, 54, 11, 25, 5]
abbrev dktJ29_split_0 : List UInt8 := dkwJ29_split_0 ++ dktJ29_split_1
theorem dksJ29_split_0 : cJ29_split.data.toList.drop 0 = dktJ29_split_0 := by decide +kernel
theorem dksJ29_split_1 : cJ29_split.data.toList.drop 23 = dktJ29_split_1 := dk_seg dksJ29_split_0 23 rfl rfl
theorem dksJ29_split_2 : cJ29_split.data.toList.drop 46 = dktJ29_split_2 := dk_seg dksJ29_split_1 23 rfl rfl
theorem dksJ29_split_3 : cJ29_split.data.toList.drop 70 = dktJ29_split_3 := dk_seg dksJ29_split_2 24 rfl rfl
theorem dksJ29_split_4 : cJ29_split.data.toList.drop 94 = dktJ29_split_4 := dk_seg dksJ29_split_3 24 rfl rfl
theorem dksJ29_split_5 : cJ29_split.data.toList.drop 117 = dktJ29_split_5 := dk_seg dksJ29_split_4 23 rfl rfl
theorem dksJ29_split_6 : cJ29_split.data.toList.drop 140 = dktJ29_split_6 := dk_seg dksJ29_split_5 23 rfl rfl
theorem dksJ29_split_7 : cJ29_split.data.toList.drop 162 = dktJ29_split_7 := dk_seg dksJ29_split_6 22 rfl rfl
theorem dksJ29_split_8 : cJ29_split.data.toList.drop 185 = dktJ29_split_8 := dk_seg dksJ29_split_7 23 rfl rfl
theorem dksJ29_split_9 : cJ29_split.data.toList.drop 208 = dktJ29_split_9 := dk_seg dksJ29_split_8 23 rfl rfl
theorem dJ29_split_0 : decode cJ29_split 0 = .ok (.aload_n 0, 1) := dk_42 (dk_at dksJ29_split_0 0 rfl rfl)
theorem dJ29_split_1 : decode cJ29_split 1 = .ok (.astore 5, 2) := dk_58 5 (dk_at dksJ29_split_0 1 rfl rfl)
theorem dJ29_split_3 : decode cJ29_split 3 = .ok (.aconst_null, 1) := dk_1 (dk_at dksJ29_split_0 3 rfl rfl)
theorem dJ29_split_4 : decode cJ29_split 4 = .ok (.astore 6, 2) := dk_58 6 (dk_at dksJ29_split_0 4 rfl rfl)
theorem dJ29_split_6 : decode cJ29_split 6 = .ok (.aconst_null, 1) := dk_1 (dk_at dksJ29_split_0 6 rfl rfl)
theorem dJ29_split_7 : decode cJ29_split 7 = .ok (.astore 7, 2) := dk_58 7 (dk_at dksJ29_split_0 7 rfl rfl)
theorem dJ29_split_9 : decode cJ29_split 9 = .ok (.aconst_null, 1) := dk_1 (dk_at dksJ29_split_0 9 rfl rfl)
theorem dJ29_split_10 : decode cJ29_split 10 = .ok (.astore 8, 2) := dk_58 8 (dk_at dksJ29_split_0 10 rfl rfl)
theorem dJ29_split_12 : decode cJ29_split 12 = .ok (.aconst_null, 1) := dk_1 (dk_at dksJ29_split_0 12 rfl rfl)
theorem dJ29_split_13 : decode cJ29_split 13 = .ok (.astore 9, 2) := dk_58 9 (dk_at dksJ29_split_0 13 rfl rfl)
theorem dJ29_split_15 : decode cJ29_split 15 = .ok (.iconst 0, 1) := dk_3 (dk_at dksJ29_split_0 15 rfl rfl)
theorem dJ29_split_16 : decode cJ29_split 16 = .ok (.istore 10, 2) := dk_54 10 (dk_at dksJ29_split_0 16 rfl rfl)
theorem dJ29_split_18 : decode cJ29_split 18 = .ok (.iconst 0, 1) := dk_3 (dk_at dksJ29_split_0 18 rfl rfl)
theorem dJ29_split_19 : decode cJ29_split 19 = .ok (.istore 11, 2) := dk_54 11 (dk_at dksJ29_split_0 19 rfl rfl)
theorem dJ29_split_21 : decode cJ29_split 21 = .ok (.aload 5, 2) := dk_25 5 (dk_at dksJ29_split_0 21 rfl rfl)
theorem dJ29_split_23 : decode cJ29_split 23 = .ok (.astore 12, 2) := dk_58 12 (dk_at dksJ29_split_1 0 rfl rfl)
theorem dJ29_split_25 : decode cJ29_split 25 = .ok (.aload 12, 2) := dk_25 12 (dk_at dksJ29_split_1 2 rfl rfl)
theorem dJ29_split_27 : decode cJ29_split 27 = .ok (.ifnull 104, 3) := dk_198 0 104 (dk_at dksJ29_split_1 4 rfl rfl)
theorem dJ29_split_30 : decode cJ29_split 30 = .ok (.aload 12, 2) := dk_25 12 (dk_at dksJ29_split_1 7 rfl rfl)
theorem dJ29_split_32 : decode cJ29_split 32 = .ok (.getfield 22, 3) := dk_180 0 22 (dk_at dksJ29_split_1 9 rfl rfl)
theorem dJ29_split_35 : decode cJ29_split 35 = .ok (.checkcast 10, 3) := dk_192 0 10 (dk_at dksJ29_split_1 12 rfl rfl)
theorem dJ29_split_38 : decode cJ29_split 38 = .ok (.astore 13, 2) := dk_58 13 (dk_at dksJ29_split_1 15 rfl rfl)
theorem dJ29_split_40 : decode cJ29_split 40 = .ok (.aload 12, 2) := dk_25 12 (dk_at dksJ29_split_1 17 rfl rfl)
theorem dJ29_split_42 : decode cJ29_split 42 = .ok (.aconst_null, 1) := dk_1 (dk_at dksJ29_split_1 19 rfl rfl)
theorem dJ29_split_43 : decode cJ29_split 43 = .ok (.putfield 22, 3) := dk_181 0 22 (dk_at dksJ29_split_1 20 rfl rfl)
theorem dJ29_split_46 : decode cJ29_split 46 = .ok (.aload 12, 2) := dk_25 12 (dk_at dksJ29_split_2 0 rfl rfl)
theorem dJ29_split_48 : decode cJ29_split 48 = .ok (.getfield 15, 3) := dk_180 0 15 (dk_at dksJ29_split_2 2 rfl rfl)
theorem dJ29_split_51 : decode cJ29_split 51 = .ok (.iload 4, 2) := dk_21 4 (dk_at dksJ29_split_2 5 rfl rfl)
theorem dJ29_split_53 : decode cJ29_split 53 = .ok (.iand, 1) := dk_126 (dk_at dksJ29_split_2 7 rfl rfl)
theorem dJ29_split_54 : decode cJ29_split 54 = .ok (.ifCond .ne 38, 3) := dk_154 0 38 (dk_at dksJ29_split_2 8 rfl rfl)
theorem dJ29_split_57 : decode cJ29_split 57 = .ok (.aload 12, 2) := dk_25 12 (dk_at dksJ29_split_2 11 rfl rfl)
theorem dJ29_split_59 : decode cJ29_split 59 = .ok (.aload 7, 2) := dk_25 7 (dk_at dksJ29_split_2 13 rfl rfl)
theorem dJ29_split_61 : decode cJ29_split 61 = .ok (.dup_x1, 1) := dk_90 (dk_at dksJ29_split_2 15 rfl rfl)
theorem dJ29_split_62 : decode cJ29_split 62 = .ok (.putfield 19, 3) := dk_181 0 19 (dk_at dksJ29_split_2 16 rfl rfl)
theorem dJ29_split_65 : decode cJ29_split 65 = .ok (.ifnonnull 10, 3) := dk_199 0 10 (dk_at dksJ29_split_2 19 rfl rfl)
theorem dJ29_split_68 : decode cJ29_split 68 = .ok (.aload 12, 2) := dk_25 12 (dk_at dksJ29_split_2 22 rfl rfl)
theorem dJ29_split_70 : decode cJ29_split 70 = .ok (.astore 6, 2) := dk_58 6 (dk_at dksJ29_split_3 0 rfl rfl)
theorem dJ29_split_72 : decode cJ29_split 72 = .ok (.goto 10, 3) := dk_167 0 10 (dk_at dksJ29_split_3 2 rfl rfl)
theorem dJ29_split_75 : decode cJ29_split 75 = .ok (.aload 7, 2) := dk_25 7 (dk_at dksJ29_split_3 5 rfl rfl)
theorem dJ29_split_77 : decode cJ29_split 77 = .ok (.aload 12, 2) := dk_25 12 (dk_at dksJ29_split_3 7 rfl rfl)
theorem dJ29_split_79 : decode cJ29_split 79 = .ok (.putfield 22, 3) := dk_181 0 22 (dk_at dksJ29_split_3 9 rfl rfl)
theorem dJ29_split_82 : decode cJ29_split 82 = .ok (.aload 12, 2) := dk_25 12 (dk_at dksJ29_split_3 12 rfl rfl)
theorem dJ29_split_84 : decode cJ29_split 84 = .ok (.astore 7, 2) := dk_58 7 (dk_at dksJ29_split_3 14 rfl rfl)
theorem dJ29_split_86 : decode cJ29_split 86 = .ok (.iinc 10 1, 3) := dk_132 10 1 (dk_at dksJ29_split_3 16 rfl rfl)
theorem dJ29_split_89 : decode cJ29_split 89 = .ok (.goto 35, 3) := dk_167 0 35 (dk_at dksJ29_split_3 19 rfl rfl)
theorem dJ29_split_92 : decode cJ29_split 92 = .ok (.aload 12, 2) := dk_25 12 (dk_at dksJ29_split_3 22 rfl rfl)
theorem dJ29_split_94 : decode cJ29_split 94 = .ok (.aload 9, 2) := dk_25 9 (dk_at dksJ29_split_4 0 rfl rfl)
theorem dJ29_split_96 : decode cJ29_split 96 = .ok (.dup_x1, 1) := dk_90 (dk_at dksJ29_split_4 2 rfl rfl)
theorem dJ29_split_97 : decode cJ29_split 97 = .ok (.putfield 19, 3) := dk_181 0 19 (dk_at dksJ29_split_4 3 rfl rfl)
theorem dJ29_split_100 : decode cJ29_split 100 = .ok (.ifnonnull 10, 3) := dk_199 0 10 (dk_at dksJ29_split_4 6 rfl rfl)
theorem dJ29_split_103 : decode cJ29_split 103 = .ok (.aload 12, 2) := dk_25 12 (dk_at dksJ29_split_4 9 rfl rfl)
theorem dJ29_split_105 : decode cJ29_split 105 = .ok (.astore 8, 2) := dk_58 8 (dk_at dksJ29_split_4 11 rfl rfl)
theorem dJ29_split_107 : decode cJ29_split 107 = .ok (.goto 10, 3) := dk_167 0 10 (dk_at dksJ29_split_4 13 rfl rfl)
theorem dJ29_split_110 : decode cJ29_split 110 = .ok (.aload 9, 2) := dk_25 9 (dk_at dksJ29_split_4 16 rfl rfl)
theorem dJ29_split_112 : decode cJ29_split 112 = .ok (.aload 12, 2) := dk_25 12 (dk_at dksJ29_split_4 18 rfl rfl)
theorem dJ29_split_114 : decode cJ29_split 114 = .ok (.putfield 22, 3) := dk_181 0 22 (dk_at dksJ29_split_4 20 rfl rfl)
theorem dJ29_split_117 : decode cJ29_split 117 = .ok (.aload 12, 2) := dk_25 12 (dk_at dksJ29_split_5 0 rfl rfl)
theorem dJ29_split_119 : decode cJ29_split 119 = .ok (.astore 9, 2) := dk_58 9 (dk_at dksJ29_split_5 2 rfl rfl)
theorem dJ29_split_121 : decode cJ29_split 121 = .ok (.iinc 11 1, 3) := dk_132 11 1 (dk_at dksJ29_split_5 4 rfl rfl)
theorem dJ29_split_124 : decode cJ29_split 124 = .ok (.aload 13, 2) := dk_25 13 (dk_at dksJ29_split_5 7 rfl rfl)
theorem dJ29_split_126 : decode cJ29_split 126 = .ok (.astore 12, 2) := dk_58 12 (dk_at dksJ29_split_5 9 rfl rfl)
theorem dJ29_split_128 : decode cJ29_split 128 = .ok (.goto (-103), 3) := dk_167 255 153 (dk_at dksJ29_split_5 11 rfl rfl)
theorem dJ29_split_131 : decode cJ29_split 131 = .ok (.aload 6, 2) := dk_25 6 (dk_at dksJ29_split_5 14 rfl rfl)
theorem dJ29_split_133 : decode cJ29_split 133 = .ok (.ifnull 38, 3) := dk_198 0 38 (dk_at dksJ29_split_5 16 rfl rfl)
theorem dJ29_split_136 : decode cJ29_split 136 = .ok (.iload 10, 2) := dk_21 10 (dk_at dksJ29_split_5 19 rfl rfl)
theorem dJ29_split_138 : decode cJ29_split 138 = .ok (.bipush 6, 2) := dk_16 6 (dk_at dksJ29_split_5 21 rfl rfl)
theorem dJ29_split_140 : decode cJ29_split 140 = .ok (.if_icmp .gt 15, 3) := dk_163 0 15 (dk_at dksJ29_split_6 0 rfl rfl)
theorem dJ29_split_143 : decode cJ29_split 143 = .ok (.aload_n 2, 1) := dk_44 (dk_at dksJ29_split_6 3 rfl rfl)
theorem dJ29_split_144 : decode cJ29_split 144 = .ok (.iload_n 3, 1) := dk_29 (dk_at dksJ29_split_6 4 rfl rfl)
theorem dJ29_split_145 : decode cJ29_split 145 = .ok (.aload 6, 2) := dk_25 6 (dk_at dksJ29_split_6 5 rfl rfl)
theorem dJ29_split_147 : decode cJ29_split 147 = .ok (.aload_n 1, 1) := dk_43 (dk_at dksJ29_split_6 7 rfl rfl)
theorem dJ29_split_148 : decode cJ29_split 148 = .ok (.invokevirtual 119, 3) := dk_182 0 119 (dk_at dksJ29_split_6 8 rfl rfl)
theorem dJ29_split_151 : decode cJ29_split 151 = .ok (.aastore, 1) := dk_83 (dk_at dksJ29_split_6 11 rfl rfl)
theorem dJ29_split_152 : decode cJ29_split 152 = .ok (.goto 19, 3) := dk_167 0 19 (dk_at dksJ29_split_6 12 rfl rfl)
theorem dJ29_split_155 : decode cJ29_split 155 = .ok (.aload_n 2, 1) := dk_44 (dk_at dksJ29_split_6 15 rfl rfl)
theorem dJ29_split_156 : decode cJ29_split 156 = .ok (.iload_n 3, 1) := dk_29 (dk_at dksJ29_split_6 16 rfl rfl)
theorem dJ29_split_157 : decode cJ29_split 157 = .ok (.aload 6, 2) := dk_25 6 (dk_at dksJ29_split_6 17 rfl rfl)
theorem dJ29_split_159 : decode cJ29_split 159 = .ok (.aastore, 1) := dk_83 (dk_at dksJ29_split_6 19 rfl rfl)
theorem dJ29_split_160 : decode cJ29_split 160 = .ok (.aload 8, 2) := dk_25 8 (dk_at dksJ29_split_6 20 rfl rfl)
theorem dJ29_split_162 : decode cJ29_split 162 = .ok (.ifnull 9, 3) := dk_198 0 9 (dk_at dksJ29_split_7 0 rfl rfl)
theorem dJ29_split_165 : decode cJ29_split 165 = .ok (.aload 6, 2) := dk_25 6 (dk_at dksJ29_split_7 3 rfl rfl)
theorem dJ29_split_167 : decode cJ29_split 167 = .ok (.aload_n 2, 1) := dk_44 (dk_at dksJ29_split_7 5 rfl rfl)
theorem dJ29_split_168 : decode cJ29_split 168 = .ok (.invokevirtual 126, 3) := dk_182 0 126 (dk_at dksJ29_split_7 6 rfl rfl)
theorem dJ29_split_171 : decode cJ29_split 171 = .ok (.aload 8, 2) := dk_25 8 (dk_at dksJ29_split_7 9 rfl rfl)
theorem dJ29_split_173 : decode cJ29_split 173 = .ok (.ifnull 44, 3) := dk_198 0 44 (dk_at dksJ29_split_7 11 rfl rfl)
theorem dJ29_split_176 : decode cJ29_split 176 = .ok (.iload 11, 2) := dk_21 11 (dk_at dksJ29_split_7 14 rfl rfl)
theorem dJ29_split_178 : decode cJ29_split 178 = .ok (.bipush 6, 2) := dk_16 6 (dk_at dksJ29_split_7 16 rfl rfl)
theorem dJ29_split_180 : decode cJ29_split 180 = .ok (.if_icmp .gt 18, 3) := dk_163 0 18 (dk_at dksJ29_split_7 18 rfl rfl)
theorem dJ29_split_183 : decode cJ29_split 183 = .ok (.aload_n 2, 1) := dk_44 (dk_at dksJ29_split_7 21 rfl rfl)
theorem dJ29_split_184 : decode cJ29_split 184 = .ok (.iload_n 3, 1) := dk_29 (dk_at dksJ29_split_7 22 rfl rfl)
theorem dJ29_split_185 : decode cJ29_split 185 = .ok (.iload 4, 2) := dk_21 4 (dk_at dksJ29_split_8 0 rfl rfl)
theorem dJ29_split_187 : decode cJ29_split 187 = .ok (.iadd, 1) := dk_96 (dk_at dksJ29_split_8 2 rfl rfl)
theorem dJ29_split_188 : decode cJ29_split 188 = .ok (.aload 8, 2) := dk_25 8 (dk_at dksJ29_split_8 3 rfl rfl)
theorem dJ29_split_190 : decode cJ29_split 190 = .ok (.aload_n 1, 1) := dk_43 (dk_at dksJ29_split_8 5 rfl rfl)
theorem dJ29_split_191 : decode cJ29_split 191 = .ok (.invokevirtual 119, 3) := dk_182 0 119 (dk_at dksJ29_split_8 6 rfl rfl)
theorem dJ29_split_194 : decode cJ29_split 194 = .ok (.aastore, 1) := dk_83 (dk_at dksJ29_split_8 9 rfl rfl)
theorem dJ29_split_195 : decode cJ29_split 195 = .ok (.goto 22, 3) := dk_167 0 22 (dk_at dksJ29_split_8 10 rfl rfl)
theorem dJ29_split_198 : decode cJ29_split 198 = .ok (.aload_n 2, 1) := dk_44 (dk_at dksJ29_split_8 13 rfl rfl)
theorem dJ29_split_199 : decode cJ29_split 199 = .ok (.iload_n 3, 1) := dk_29 (dk_at dksJ29_split_8 14 rfl rfl)
theorem dJ29_split_200 : decode cJ29_split 200 = .ok (.iload 4, 2) := dk_21 4 (dk_at dksJ29_split_8 15 rfl rfl)
theorem dJ29_split_202 : decode cJ29_split 202 = .ok (.iadd, 1) := dk_96 (dk_at dksJ29_split_8 17 rfl rfl)
theorem dJ29_split_203 : decode cJ29_split 203 = .ok (.aload 8, 2) := dk_25 8 (dk_at dksJ29_split_8 18 rfl rfl)
theorem dJ29_split_205 : decode cJ29_split 205 = .ok (.aastore, 1) := dk_83 (dk_at dksJ29_split_8 20 rfl rfl)
theorem dJ29_split_206 : decode cJ29_split 206 = .ok (.aload 6, 2) := dk_25 6 (dk_at dksJ29_split_8 21 rfl rfl)
theorem dJ29_split_208 : decode cJ29_split 208 = .ok (.ifnull 9, 3) := dk_198 0 9 (dk_at dksJ29_split_9 0 rfl rfl)
theorem dJ29_split_211 : decode cJ29_split 211 = .ok (.aload 8, 2) := dk_25 8 (dk_at dksJ29_split_9 3 rfl rfl)
theorem dJ29_split_213 : decode cJ29_split 213 = .ok (.aload_n 2, 1) := dk_44 (dk_at dksJ29_split_9 5 rfl rfl)
theorem dJ29_split_214 : decode cJ29_split 214 = .ok (.invokevirtual 126, 3) := dk_182 0 126 (dk_at dksJ29_split_9 6 rfl rfl)
theorem dJ29_split_217 : decode cJ29_split 217 = .ok (.return_, 1) := dk_177 (dk_at dksJ29_split_9 9 rfl rfl)
abbrev cJ29_untreeify : ByteArray := prog_81_method_8_code
def yJ29_untreeify : MethodName := ⟨RJ29, "untreeify", "(Ljava/util/HashMap;)Ljava/util/HashMap$Node;"⟩
def dkwJ29_untreeify_2 : List UInt8 := [58, 4, 167, 255, 216, 44, 176]
abbrev dktJ29_untreeify_2 : List UInt8 := dkwJ29_untreeify_2 ++ []
def dkwJ29_untreeify_1 : List UInt8 := [199, 0, 9, 25, 5, 77, 167, 0, 9, 45, 25, 5, 181, 0, 112, 25, 5, 78, 25, 4, 180, 0, 112]
abbrev dktJ29_untreeify_1 : List UInt8 := dkwJ29_untreeify_1 ++ dktJ29_untreeify_2
def dkwJ29_untreeify_0 : List UInt8 := [1, 77, 1, 78, 42, 58, 4, 25, 4, 198, 0, 41, 43, 25, 4, 1, 182, 0, 108, 58, 5, 45]
abbrev dktJ29_untreeify_0 : List UInt8 := dkwJ29_untreeify_0 ++ dktJ29_untreeify_1
theorem dksJ29_untreeify_0 : cJ29_untreeify.data.toList.drop 0 = dktJ29_untreeify_0 := by decide +kernel
theorem dksJ29_untreeify_1 : cJ29_untreeify.data.toList.drop 22 = dktJ29_untreeify_1 := dk_seg dksJ29_untreeify_0 22 rfl rfl
theorem dksJ29_untreeify_2 : cJ29_untreeify.data.toList.drop 45 = dktJ29_untreeify_2 := dk_seg dksJ29_untreeify_1 23 rfl rfl
theorem dJ29_untreeify_0 : decode cJ29_untreeify 0 = .ok (.aconst_null, 1) := dk_1 (dk_at dksJ29_untreeify_0 0 rfl rfl)
theorem dJ29_untreeify_1 : decode cJ29_untreeify 1 = .ok (.astore_n 2, 1) := dk_77 (dk_at dksJ29_untreeify_0 1 rfl rfl)
theorem dJ29_untreeify_2 : decode cJ29_untreeify 2 = .ok (.aconst_null, 1) := dk_1 (dk_at dksJ29_untreeify_0 2 rfl rfl)
theorem dJ29_untreeify_3 : decode cJ29_untreeify 3 = .ok (.astore_n 3, 1) := dk_78 (dk_at dksJ29_untreeify_0 3 rfl rfl)
theorem dJ29_untreeify_4 : decode cJ29_untreeify 4 = .ok (.aload_n 0, 1) := dk_42 (dk_at dksJ29_untreeify_0 4 rfl rfl)
theorem dJ29_untreeify_5 : decode cJ29_untreeify 5 = .ok (.astore 4, 2) := dk_58 4 (dk_at dksJ29_untreeify_0 5 rfl rfl)
theorem dJ29_untreeify_7 : decode cJ29_untreeify 7 = .ok (.aload 4, 2) := dk_25 4 (dk_at dksJ29_untreeify_0 7 rfl rfl)
theorem dJ29_untreeify_9 : decode cJ29_untreeify 9 = .ok (.ifnull 41, 3) := dk_198 0 41 (dk_at dksJ29_untreeify_0 9 rfl rfl)
theorem dJ29_untreeify_12 : decode cJ29_untreeify 12 = .ok (.aload_n 1, 1) := dk_43 (dk_at dksJ29_untreeify_0 12 rfl rfl)
theorem dJ29_untreeify_13 : decode cJ29_untreeify 13 = .ok (.aload 4, 2) := dk_25 4 (dk_at dksJ29_untreeify_0 13 rfl rfl)
theorem dJ29_untreeify_15 : decode cJ29_untreeify 15 = .ok (.aconst_null, 1) := dk_1 (dk_at dksJ29_untreeify_0 15 rfl rfl)
theorem dJ29_untreeify_16 : decode cJ29_untreeify 16 = .ok (.invokevirtual 108, 3) := dk_182 0 108 (dk_at dksJ29_untreeify_0 16 rfl rfl)
theorem dJ29_untreeify_19 : decode cJ29_untreeify 19 = .ok (.astore 5, 2) := dk_58 5 (dk_at dksJ29_untreeify_0 19 rfl rfl)
theorem dJ29_untreeify_21 : decode cJ29_untreeify 21 = .ok (.aload_n 3, 1) := dk_45 (dk_at dksJ29_untreeify_0 21 rfl rfl)
theorem dJ29_untreeify_22 : decode cJ29_untreeify 22 = .ok (.ifnonnull 9, 3) := dk_199 0 9 (dk_at dksJ29_untreeify_1 0 rfl rfl)
theorem dJ29_untreeify_25 : decode cJ29_untreeify 25 = .ok (.aload 5, 2) := dk_25 5 (dk_at dksJ29_untreeify_1 3 rfl rfl)
theorem dJ29_untreeify_27 : decode cJ29_untreeify 27 = .ok (.astore_n 2, 1) := dk_77 (dk_at dksJ29_untreeify_1 5 rfl rfl)
theorem dJ29_untreeify_28 : decode cJ29_untreeify 28 = .ok (.goto 9, 3) := dk_167 0 9 (dk_at dksJ29_untreeify_1 6 rfl rfl)
theorem dJ29_untreeify_31 : decode cJ29_untreeify 31 = .ok (.aload_n 3, 1) := dk_45 (dk_at dksJ29_untreeify_1 9 rfl rfl)
theorem dJ29_untreeify_32 : decode cJ29_untreeify 32 = .ok (.aload 5, 2) := dk_25 5 (dk_at dksJ29_untreeify_1 10 rfl rfl)
theorem dJ29_untreeify_34 : decode cJ29_untreeify 34 = .ok (.putfield 112, 3) := dk_181 0 112 (dk_at dksJ29_untreeify_1 12 rfl rfl)
theorem dJ29_untreeify_37 : decode cJ29_untreeify 37 = .ok (.aload 5, 2) := dk_25 5 (dk_at dksJ29_untreeify_1 15 rfl rfl)
theorem dJ29_untreeify_39 : decode cJ29_untreeify 39 = .ok (.astore_n 3, 1) := dk_78 (dk_at dksJ29_untreeify_1 17 rfl rfl)
theorem dJ29_untreeify_40 : decode cJ29_untreeify 40 = .ok (.aload 4, 2) := dk_25 4 (dk_at dksJ29_untreeify_1 18 rfl rfl)
theorem dJ29_untreeify_42 : decode cJ29_untreeify 42 = .ok (.getfield 112, 3) := dk_180 0 112 (dk_at dksJ29_untreeify_1 20 rfl rfl)
theorem dJ29_untreeify_45 : decode cJ29_untreeify 45 = .ok (.astore 4, 2) := dk_58 4 (dk_at dksJ29_untreeify_2 0 rfl rfl)
theorem dJ29_untreeify_47 : decode cJ29_untreeify 47 = .ok (.goto (-40), 3) := dk_167 255 216 (dk_at dksJ29_untreeify_2 2 rfl rfl)
theorem dJ29_untreeify_50 : decode cJ29_untreeify 50 = .ok (.aload_n 2, 1) := dk_44 (dk_at dksJ29_untreeify_2 5 rfl rfl)
theorem dJ29_untreeify_51 : decode cJ29_untreeify 51 = .ok (.areturn, 1) := dk_176 (dk_at dksJ29_untreeify_2 6 rfl rfl)
abbrev cJ29_treeify : ByteArray := prog_81_method_7_code
def yJ29_treeify : MethodName := ⟨RJ29, "treeify", "([Ljava/util/HashMap$Node;)V"⟩
def dkwJ29_treeify_9 : List UInt8 := [25, 4, 78, 167, 255, 48, 43, 44, 184, 0, 104, 177]
abbrev dktJ29_treeify_9 : List UInt8 := dkwJ29_treeify_9 ++ []
def dkwJ29_treeify_8 : List UInt8 := [181, 0, 39, 167, 0, 9, 25, 12, 45, 181, 0, 42, 44, 45, 184, 0, 100, 77, 167, 0, 6, 167, 255, 114]
abbrev dktJ29_treeify_8 : List UInt8 := dkwJ29_treeify_8 ++ dktJ29_treeify_9
def dkwJ29_treeify_7 : List UInt8 := [180, 0, 42, 89, 58, 8, 199, 0, 38, 45, 25, 12, 181, 0, 9, 21, 9, 157, 0, 12, 25, 12, 45]
abbrev dktJ29_treeify_7 : List UInt8 := dkwJ29_treeify_7 ++ dktJ29_treeify_8
def dkwJ29_treeify_6 : List UInt8 := [184, 0, 96, 54, 9, 25, 8, 58, 12, 21, 9, 157, 0, 11, 25, 8, 180, 0, 39, 167, 0, 8, 25, 8]
abbrev dktJ29_treeify_6 : List UInt8 := dkwJ29_treeify_6 ++ dktJ29_treeify_7
def dkwJ29_treeify_5 : List UInt8 := [198, 0, 18, 25, 7, 25, 5, 25, 11, 184, 0, 59, 89, 54, 9, 154, 0, 12, 25, 5, 25, 11]
abbrev dktJ29_treeify_5 : List UInt8 := dkwJ29_treeify_5 ++ dktJ29_treeify_6
def dkwJ29_treeify_4 : List UInt8 := [162, 0, 9, 4, 54, 9, 167, 0, 43, 25, 7, 199, 0, 14, 25, 5, 184, 0, 55, 89, 58, 7]
abbrev dktJ29_treeify_4 : List UInt8 := dkwJ29_treeify_4 ++ dktJ29_treeify_5
def dkwJ29_treeify_3 : List UInt8 := [25, 8, 180, 0, 15, 89, 54, 10, 21, 6, 164, 0, 9, 2, 54, 9, 167, 0, 56, 21, 10, 21, 6]
abbrev dktJ29_treeify_3 : List UInt8 := dkwJ29_treeify_3 ++ dktJ29_treeify_4
def dkwJ29_treeify_2 : List UInt8 := [180, 0, 45, 58, 5, 45, 180, 0, 15, 54, 6, 1, 58, 7, 44, 58, 8, 25, 8, 180, 0, 45, 58, 11]
abbrev dktJ29_treeify_2 : List UInt8 := dkwJ29_treeify_2 ++ dktJ29_treeify_3
def dkwJ29_treeify_1 : List UInt8 := [181, 0, 39, 44, 199, 0, 18, 45, 1, 181, 0, 9, 45, 3, 181, 0, 93, 45, 77, 167, 0, 166, 45]
abbrev dktJ29_treeify_1 : List UInt8 := dkwJ29_treeify_1 ++ dktJ29_treeify_2
def dkwJ29_treeify_0 : List UInt8 := [1, 77, 42, 78, 45, 198, 0, 210, 45, 180, 0, 22, 192, 0, 10, 58, 4, 45, 45, 1, 90, 181, 0, 42]
abbrev dktJ29_treeify_0 : List UInt8 := dkwJ29_treeify_0 ++ dktJ29_treeify_1
theorem dksJ29_treeify_0 : cJ29_treeify.data.toList.drop 0 = dktJ29_treeify_0 := by decide +kernel
theorem dksJ29_treeify_1 : cJ29_treeify.data.toList.drop 24 = dktJ29_treeify_1 := dk_seg dksJ29_treeify_0 24 rfl rfl
theorem dksJ29_treeify_2 : cJ29_treeify.data.toList.drop 47 = dktJ29_treeify_2 := dk_seg dksJ29_treeify_1 23 rfl rfl
theorem dksJ29_treeify_3 : cJ29_treeify.data.toList.drop 71 = dktJ29_treeify_3 := dk_seg dksJ29_treeify_2 24 rfl rfl
theorem dksJ29_treeify_4 : cJ29_treeify.data.toList.drop 94 = dktJ29_treeify_4 := dk_seg dksJ29_treeify_3 23 rfl rfl
theorem dksJ29_treeify_5 : cJ29_treeify.data.toList.drop 116 = dktJ29_treeify_5 := dk_seg dksJ29_treeify_4 22 rfl rfl
theorem dksJ29_treeify_6 : cJ29_treeify.data.toList.drop 138 = dktJ29_treeify_6 := dk_seg dksJ29_treeify_5 22 rfl rfl
theorem dksJ29_treeify_7 : cJ29_treeify.data.toList.drop 162 = dktJ29_treeify_7 := dk_seg dksJ29_treeify_6 24 rfl rfl
theorem dksJ29_treeify_8 : cJ29_treeify.data.toList.drop 185 = dktJ29_treeify_8 := dk_seg dksJ29_treeify_7 23 rfl rfl
theorem dksJ29_treeify_9 : cJ29_treeify.data.toList.drop 209 = dktJ29_treeify_9 := dk_seg dksJ29_treeify_8 24 rfl rfl
theorem dJ29_treeify_0 : decode cJ29_treeify 0 = .ok (.aconst_null, 1) := dk_1 (dk_at dksJ29_treeify_0 0 rfl rfl)
theorem dJ29_treeify_1 : decode cJ29_treeify 1 = .ok (.astore_n 2, 1) := dk_77 (dk_at dksJ29_treeify_0 1 rfl rfl)
theorem dJ29_treeify_2 : decode cJ29_treeify 2 = .ok (.aload_n 0, 1) := dk_42 (dk_at dksJ29_treeify_0 2 rfl rfl)
theorem dJ29_treeify_3 : decode cJ29_treeify 3 = .ok (.astore_n 3, 1) := dk_78 (dk_at dksJ29_treeify_0 3 rfl rfl)
theorem dJ29_treeify_4 : decode cJ29_treeify 4 = .ok (.aload_n 3, 1) := dk_45 (dk_at dksJ29_treeify_0 4 rfl rfl)
theorem dJ29_treeify_5 : decode cJ29_treeify 5 = .ok (.ifnull 210, 3) := dk_198 0 210 (dk_at dksJ29_treeify_0 5 rfl rfl)
theorem dJ29_treeify_8 : decode cJ29_treeify 8 = .ok (.aload_n 3, 1) := dk_45 (dk_at dksJ29_treeify_0 8 rfl rfl)
theorem dJ29_treeify_9 : decode cJ29_treeify 9 = .ok (.getfield 22, 3) := dk_180 0 22 (dk_at dksJ29_treeify_0 9 rfl rfl)
theorem dJ29_treeify_12 : decode cJ29_treeify 12 = .ok (.checkcast 10, 3) := dk_192 0 10 (dk_at dksJ29_treeify_0 12 rfl rfl)
theorem dJ29_treeify_15 : decode cJ29_treeify 15 = .ok (.astore 4, 2) := dk_58 4 (dk_at dksJ29_treeify_0 15 rfl rfl)
theorem dJ29_treeify_17 : decode cJ29_treeify 17 = .ok (.aload_n 3, 1) := dk_45 (dk_at dksJ29_treeify_0 17 rfl rfl)
theorem dJ29_treeify_18 : decode cJ29_treeify 18 = .ok (.aload_n 3, 1) := dk_45 (dk_at dksJ29_treeify_0 18 rfl rfl)
theorem dJ29_treeify_19 : decode cJ29_treeify 19 = .ok (.aconst_null, 1) := dk_1 (dk_at dksJ29_treeify_0 19 rfl rfl)
theorem dJ29_treeify_20 : decode cJ29_treeify 20 = .ok (.dup_x1, 1) := dk_90 (dk_at dksJ29_treeify_0 20 rfl rfl)
theorem dJ29_treeify_21 : decode cJ29_treeify 21 = .ok (.putfield 42, 3) := dk_181 0 42 (dk_at dksJ29_treeify_0 21 rfl rfl)
theorem dJ29_treeify_24 : decode cJ29_treeify 24 = .ok (.putfield 39, 3) := dk_181 0 39 (dk_at dksJ29_treeify_1 0 rfl rfl)
theorem dJ29_treeify_27 : decode cJ29_treeify 27 = .ok (.aload_n 2, 1) := dk_44 (dk_at dksJ29_treeify_1 3 rfl rfl)
theorem dJ29_treeify_28 : decode cJ29_treeify 28 = .ok (.ifnonnull 18, 3) := dk_199 0 18 (dk_at dksJ29_treeify_1 4 rfl rfl)
theorem dJ29_treeify_31 : decode cJ29_treeify 31 = .ok (.aload_n 3, 1) := dk_45 (dk_at dksJ29_treeify_1 7 rfl rfl)
theorem dJ29_treeify_32 : decode cJ29_treeify 32 = .ok (.aconst_null, 1) := dk_1 (dk_at dksJ29_treeify_1 8 rfl rfl)
theorem dJ29_treeify_33 : decode cJ29_treeify 33 = .ok (.putfield 9, 3) := dk_181 0 9 (dk_at dksJ29_treeify_1 9 rfl rfl)
theorem dJ29_treeify_36 : decode cJ29_treeify 36 = .ok (.aload_n 3, 1) := dk_45 (dk_at dksJ29_treeify_1 12 rfl rfl)
theorem dJ29_treeify_37 : decode cJ29_treeify 37 = .ok (.iconst 0, 1) := dk_3 (dk_at dksJ29_treeify_1 13 rfl rfl)
theorem dJ29_treeify_38 : decode cJ29_treeify 38 = .ok (.putfield 93, 3) := dk_181 0 93 (dk_at dksJ29_treeify_1 14 rfl rfl)
theorem dJ29_treeify_41 : decode cJ29_treeify 41 = .ok (.aload_n 3, 1) := dk_45 (dk_at dksJ29_treeify_1 17 rfl rfl)
theorem dJ29_treeify_42 : decode cJ29_treeify 42 = .ok (.astore_n 2, 1) := dk_77 (dk_at dksJ29_treeify_1 18 rfl rfl)
theorem dJ29_treeify_43 : decode cJ29_treeify 43 = .ok (.goto 166, 3) := dk_167 0 166 (dk_at dksJ29_treeify_1 19 rfl rfl)
theorem dJ29_treeify_46 : decode cJ29_treeify 46 = .ok (.aload_n 3, 1) := dk_45 (dk_at dksJ29_treeify_1 22 rfl rfl)
theorem dJ29_treeify_47 : decode cJ29_treeify 47 = .ok (.getfield 45, 3) := dk_180 0 45 (dk_at dksJ29_treeify_2 0 rfl rfl)
theorem dJ29_treeify_50 : decode cJ29_treeify 50 = .ok (.astore 5, 2) := dk_58 5 (dk_at dksJ29_treeify_2 3 rfl rfl)
theorem dJ29_treeify_52 : decode cJ29_treeify 52 = .ok (.aload_n 3, 1) := dk_45 (dk_at dksJ29_treeify_2 5 rfl rfl)
theorem dJ29_treeify_53 : decode cJ29_treeify 53 = .ok (.getfield 15, 3) := dk_180 0 15 (dk_at dksJ29_treeify_2 6 rfl rfl)
theorem dJ29_treeify_56 : decode cJ29_treeify 56 = .ok (.istore 6, 2) := dk_54 6 (dk_at dksJ29_treeify_2 9 rfl rfl)
theorem dJ29_treeify_58 : decode cJ29_treeify 58 = .ok (.aconst_null, 1) := dk_1 (dk_at dksJ29_treeify_2 11 rfl rfl)
theorem dJ29_treeify_59 : decode cJ29_treeify 59 = .ok (.astore 7, 2) := dk_58 7 (dk_at dksJ29_treeify_2 12 rfl rfl)
theorem dJ29_treeify_61 : decode cJ29_treeify 61 = .ok (.aload_n 2, 1) := dk_44 (dk_at dksJ29_treeify_2 14 rfl rfl)
theorem dJ29_treeify_62 : decode cJ29_treeify 62 = .ok (.astore 8, 2) := dk_58 8 (dk_at dksJ29_treeify_2 15 rfl rfl)
theorem dJ29_treeify_64 : decode cJ29_treeify 64 = .ok (.aload 8, 2) := dk_25 8 (dk_at dksJ29_treeify_2 17 rfl rfl)
theorem dJ29_treeify_66 : decode cJ29_treeify 66 = .ok (.getfield 45, 3) := dk_180 0 45 (dk_at dksJ29_treeify_2 19 rfl rfl)
theorem dJ29_treeify_69 : decode cJ29_treeify 69 = .ok (.astore 11, 2) := dk_58 11 (dk_at dksJ29_treeify_2 22 rfl rfl)
theorem dJ29_treeify_71 : decode cJ29_treeify 71 = .ok (.aload 8, 2) := dk_25 8 (dk_at dksJ29_treeify_3 0 rfl rfl)
theorem dJ29_treeify_73 : decode cJ29_treeify 73 = .ok (.getfield 15, 3) := dk_180 0 15 (dk_at dksJ29_treeify_3 2 rfl rfl)
theorem dJ29_treeify_76 : decode cJ29_treeify 76 = .ok (.dup, 1) := dk_89 (dk_at dksJ29_treeify_3 5 rfl rfl)
theorem dJ29_treeify_77 : decode cJ29_treeify 77 = .ok (.istore 10, 2) := dk_54 10 (dk_at dksJ29_treeify_3 6 rfl rfl)
theorem dJ29_treeify_79 : decode cJ29_treeify 79 = .ok (.iload 6, 2) := dk_21 6 (dk_at dksJ29_treeify_3 8 rfl rfl)
theorem dJ29_treeify_81 : decode cJ29_treeify 81 = .ok (.if_icmp .le 9, 3) := dk_164 0 9 (dk_at dksJ29_treeify_3 10 rfl rfl)
theorem dJ29_treeify_84 : decode cJ29_treeify 84 = .ok (.iconst (-1), 1) := dk_2 (dk_at dksJ29_treeify_3 13 rfl rfl)
theorem dJ29_treeify_85 : decode cJ29_treeify 85 = .ok (.istore 9, 2) := dk_54 9 (dk_at dksJ29_treeify_3 14 rfl rfl)
theorem dJ29_treeify_87 : decode cJ29_treeify 87 = .ok (.goto 56, 3) := dk_167 0 56 (dk_at dksJ29_treeify_3 16 rfl rfl)
theorem dJ29_treeify_90 : decode cJ29_treeify 90 = .ok (.iload 10, 2) := dk_21 10 (dk_at dksJ29_treeify_3 19 rfl rfl)
theorem dJ29_treeify_92 : decode cJ29_treeify 92 = .ok (.iload 6, 2) := dk_21 6 (dk_at dksJ29_treeify_3 21 rfl rfl)
theorem dJ29_treeify_94 : decode cJ29_treeify 94 = .ok (.if_icmp .ge 9, 3) := dk_162 0 9 (dk_at dksJ29_treeify_4 0 rfl rfl)
theorem dJ29_treeify_97 : decode cJ29_treeify 97 = .ok (.iconst 1, 1) := dk_4 (dk_at dksJ29_treeify_4 3 rfl rfl)
theorem dJ29_treeify_98 : decode cJ29_treeify 98 = .ok (.istore 9, 2) := dk_54 9 (dk_at dksJ29_treeify_4 4 rfl rfl)
theorem dJ29_treeify_100 : decode cJ29_treeify 100 = .ok (.goto 43, 3) := dk_167 0 43 (dk_at dksJ29_treeify_4 6 rfl rfl)
theorem dJ29_treeify_103 : decode cJ29_treeify 103 = .ok (.aload 7, 2) := dk_25 7 (dk_at dksJ29_treeify_4 9 rfl rfl)
theorem dJ29_treeify_105 : decode cJ29_treeify 105 = .ok (.ifnonnull 14, 3) := dk_199 0 14 (dk_at dksJ29_treeify_4 11 rfl rfl)
theorem dJ29_treeify_108 : decode cJ29_treeify 108 = .ok (.aload 5, 2) := dk_25 5 (dk_at dksJ29_treeify_4 14 rfl rfl)
theorem dJ29_treeify_110 : decode cJ29_treeify 110 = .ok (.invokestatic 55, 3) := dk_184 0 55 (dk_at dksJ29_treeify_4 16 rfl rfl)
theorem dJ29_treeify_113 : decode cJ29_treeify 113 = .ok (.dup, 1) := dk_89 (dk_at dksJ29_treeify_4 19 rfl rfl)
theorem dJ29_treeify_114 : decode cJ29_treeify 114 = .ok (.astore 7, 2) := dk_58 7 (dk_at dksJ29_treeify_4 20 rfl rfl)
theorem dJ29_treeify_116 : decode cJ29_treeify 116 = .ok (.ifnull 18, 3) := dk_198 0 18 (dk_at dksJ29_treeify_5 0 rfl rfl)
theorem dJ29_treeify_119 : decode cJ29_treeify 119 = .ok (.aload 7, 2) := dk_25 7 (dk_at dksJ29_treeify_5 3 rfl rfl)
theorem dJ29_treeify_121 : decode cJ29_treeify 121 = .ok (.aload 5, 2) := dk_25 5 (dk_at dksJ29_treeify_5 5 rfl rfl)
theorem dJ29_treeify_123 : decode cJ29_treeify 123 = .ok (.aload 11, 2) := dk_25 11 (dk_at dksJ29_treeify_5 7 rfl rfl)
theorem dJ29_treeify_125 : decode cJ29_treeify 125 = .ok (.invokestatic 59, 3) := dk_184 0 59 (dk_at dksJ29_treeify_5 9 rfl rfl)
theorem dJ29_treeify_128 : decode cJ29_treeify 128 = .ok (.dup, 1) := dk_89 (dk_at dksJ29_treeify_5 12 rfl rfl)
theorem dJ29_treeify_129 : decode cJ29_treeify 129 = .ok (.istore 9, 2) := dk_54 9 (dk_at dksJ29_treeify_5 13 rfl rfl)
theorem dJ29_treeify_131 : decode cJ29_treeify 131 = .ok (.ifCond .ne 12, 3) := dk_154 0 12 (dk_at dksJ29_treeify_5 15 rfl rfl)
theorem dJ29_treeify_134 : decode cJ29_treeify 134 = .ok (.aload 5, 2) := dk_25 5 (dk_at dksJ29_treeify_5 18 rfl rfl)
theorem dJ29_treeify_136 : decode cJ29_treeify 136 = .ok (.aload 11, 2) := dk_25 11 (dk_at dksJ29_treeify_5 20 rfl rfl)
theorem dJ29_treeify_138 : decode cJ29_treeify 138 = .ok (.invokestatic 96, 3) := dk_184 0 96 (dk_at dksJ29_treeify_6 0 rfl rfl)
theorem dJ29_treeify_141 : decode cJ29_treeify 141 = .ok (.istore 9, 2) := dk_54 9 (dk_at dksJ29_treeify_6 3 rfl rfl)
theorem dJ29_treeify_143 : decode cJ29_treeify 143 = .ok (.aload 8, 2) := dk_25 8 (dk_at dksJ29_treeify_6 5 rfl rfl)
theorem dJ29_treeify_145 : decode cJ29_treeify 145 = .ok (.astore 12, 2) := dk_58 12 (dk_at dksJ29_treeify_6 7 rfl rfl)
theorem dJ29_treeify_147 : decode cJ29_treeify 147 = .ok (.iload 9, 2) := dk_21 9 (dk_at dksJ29_treeify_6 9 rfl rfl)
theorem dJ29_treeify_149 : decode cJ29_treeify 149 = .ok (.ifCond .gt 11, 3) := dk_157 0 11 (dk_at dksJ29_treeify_6 11 rfl rfl)
theorem dJ29_treeify_152 : decode cJ29_treeify 152 = .ok (.aload 8, 2) := dk_25 8 (dk_at dksJ29_treeify_6 14 rfl rfl)
theorem dJ29_treeify_154 : decode cJ29_treeify 154 = .ok (.getfield 39, 3) := dk_180 0 39 (dk_at dksJ29_treeify_6 16 rfl rfl)
theorem dJ29_treeify_157 : decode cJ29_treeify 157 = .ok (.goto 8, 3) := dk_167 0 8 (dk_at dksJ29_treeify_6 19 rfl rfl)
theorem dJ29_treeify_160 : decode cJ29_treeify 160 = .ok (.aload 8, 2) := dk_25 8 (dk_at dksJ29_treeify_6 22 rfl rfl)
theorem dJ29_treeify_162 : decode cJ29_treeify 162 = .ok (.getfield 42, 3) := dk_180 0 42 (dk_at dksJ29_treeify_7 0 rfl rfl)
theorem dJ29_treeify_165 : decode cJ29_treeify 165 = .ok (.dup, 1) := dk_89 (dk_at dksJ29_treeify_7 3 rfl rfl)
theorem dJ29_treeify_166 : decode cJ29_treeify 166 = .ok (.astore 8, 2) := dk_58 8 (dk_at dksJ29_treeify_7 4 rfl rfl)
theorem dJ29_treeify_168 : decode cJ29_treeify 168 = .ok (.ifnonnull 38, 3) := dk_199 0 38 (dk_at dksJ29_treeify_7 6 rfl rfl)
theorem dJ29_treeify_171 : decode cJ29_treeify 171 = .ok (.aload_n 3, 1) := dk_45 (dk_at dksJ29_treeify_7 9 rfl rfl)
theorem dJ29_treeify_172 : decode cJ29_treeify 172 = .ok (.aload 12, 2) := dk_25 12 (dk_at dksJ29_treeify_7 10 rfl rfl)
theorem dJ29_treeify_174 : decode cJ29_treeify 174 = .ok (.putfield 9, 3) := dk_181 0 9 (dk_at dksJ29_treeify_7 12 rfl rfl)
theorem dJ29_treeify_177 : decode cJ29_treeify 177 = .ok (.iload 9, 2) := dk_21 9 (dk_at dksJ29_treeify_7 15 rfl rfl)
theorem dJ29_treeify_179 : decode cJ29_treeify 179 = .ok (.ifCond .gt 12, 3) := dk_157 0 12 (dk_at dksJ29_treeify_7 17 rfl rfl)
theorem dJ29_treeify_182 : decode cJ29_treeify 182 = .ok (.aload 12, 2) := dk_25 12 (dk_at dksJ29_treeify_7 20 rfl rfl)
theorem dJ29_treeify_184 : decode cJ29_treeify 184 = .ok (.aload_n 3, 1) := dk_45 (dk_at dksJ29_treeify_7 22 rfl rfl)
theorem dJ29_treeify_185 : decode cJ29_treeify 185 = .ok (.putfield 39, 3) := dk_181 0 39 (dk_at dksJ29_treeify_8 0 rfl rfl)
theorem dJ29_treeify_188 : decode cJ29_treeify 188 = .ok (.goto 9, 3) := dk_167 0 9 (dk_at dksJ29_treeify_8 3 rfl rfl)
theorem dJ29_treeify_191 : decode cJ29_treeify 191 = .ok (.aload 12, 2) := dk_25 12 (dk_at dksJ29_treeify_8 6 rfl rfl)
theorem dJ29_treeify_193 : decode cJ29_treeify 193 = .ok (.aload_n 3, 1) := dk_45 (dk_at dksJ29_treeify_8 8 rfl rfl)
theorem dJ29_treeify_194 : decode cJ29_treeify 194 = .ok (.putfield 42, 3) := dk_181 0 42 (dk_at dksJ29_treeify_8 9 rfl rfl)
theorem dJ29_treeify_197 : decode cJ29_treeify 197 = .ok (.aload_n 2, 1) := dk_44 (dk_at dksJ29_treeify_8 12 rfl rfl)
theorem dJ29_treeify_198 : decode cJ29_treeify 198 = .ok (.aload_n 3, 1) := dk_45 (dk_at dksJ29_treeify_8 13 rfl rfl)
theorem dJ29_treeify_199 : decode cJ29_treeify 199 = .ok (.invokestatic 100, 3) := dk_184 0 100 (dk_at dksJ29_treeify_8 14 rfl rfl)
theorem dJ29_treeify_202 : decode cJ29_treeify 202 = .ok (.astore_n 2, 1) := dk_77 (dk_at dksJ29_treeify_8 17 rfl rfl)
theorem dJ29_treeify_203 : decode cJ29_treeify 203 = .ok (.goto 6, 3) := dk_167 0 6 (dk_at dksJ29_treeify_8 18 rfl rfl)
theorem dJ29_treeify_206 : decode cJ29_treeify 206 = .ok (.goto (-142), 3) := dk_167 255 114 (dk_at dksJ29_treeify_8 21 rfl rfl)
theorem dJ29_treeify_209 : decode cJ29_treeify 209 = .ok (.aload 4, 2) := dk_25 4 (dk_at dksJ29_treeify_9 0 rfl rfl)
theorem dJ29_treeify_211 : decode cJ29_treeify 211 = .ok (.astore_n 3, 1) := dk_78 (dk_at dksJ29_treeify_9 2 rfl rfl)
theorem dJ29_treeify_212 : decode cJ29_treeify 212 = .ok (.goto (-208), 3) := dk_167 255 48 (dk_at dksJ29_treeify_9 3 rfl rfl)
theorem dJ29_treeify_215 : decode cJ29_treeify 215 = .ok (.aload_n 1, 1) := dk_43 (dk_at dksJ29_treeify_9 6 rfl rfl)
theorem dJ29_treeify_216 : decode cJ29_treeify 216 = .ok (.aload_n 2, 1) := dk_44 (dk_at dksJ29_treeify_9 7 rfl rfl)
theorem dJ29_treeify_217 : decode cJ29_treeify 217 = .ok (.invokestatic 104, 3) := dk_184 0 104 (dk_at dksJ29_treeify_9 8 rfl rfl)
theorem dJ29_treeify_220 : decode cJ29_treeify 220 = .ok (.return_, 1) := dk_177 (dk_at dksJ29_treeify_9 11 rfl rfl)
abbrev cJ29_balanceInsertion : ByteArray := prog_81_method_14_code
def yJ29_balanceInsertion : MethodName := ⟨RJ29, "balanceInsertion", "(Ljava/util/HashMap$TreeNode;Ljava/util/HashMap$TreeNode;)Ljava/util/HashMap$TreeNode;"⟩
def dkwJ29_balanceInsertion_10 : List UInt8 := [198, 255, 33, 45, 4, 181, 0, 93, 42, 45, 184, 0, 130, 75, 167, 255, 19]
abbrev dktJ29_balanceInsertion_10 : List UInt8 := dkwJ29_balanceInsertion_10 ++ []
def dkwJ29_balanceInsertion_9 : List UInt8 := [199, 0, 7, 1, 167, 0, 7, 44, 180, 0, 9, 78, 44, 198, 255, 42, 44, 3, 181, 0, 93, 45]
abbrev dktJ29_balanceInsertion_9 : List UInt8 := dkwJ29_balanceInsertion_9 ++ dktJ29_balanceInsertion_10
def dkwJ29_balanceInsertion_8 : List UInt8 := [43, 44, 180, 0, 39, 166, 0, 29, 42, 44, 89, 76, 184, 0, 133, 75, 43, 180, 0, 9, 89, 77]
abbrev dktJ29_balanceInsertion_8 : List UInt8 := dkwJ29_balanceInsertion_8 ++ dktJ29_balanceInsertion_9
def dkwJ29_balanceInsertion_7 : List UInt8 := [153, 0, 24, 25, 4, 3, 181, 0, 93, 44, 3, 181, 0, 93, 45, 4, 181, 0, 93, 45, 76, 167, 255, 80]
abbrev dktJ29_balanceInsertion_7 : List UInt8 := dkwJ29_balanceInsertion_7 ++ dktJ29_balanceInsertion_8
def dkwJ29_balanceInsertion_6 : List UInt8 := [181, 0, 93, 42, 45, 184, 0, 133, 75, 167, 255, 114, 25, 4, 198, 0, 32, 25, 4, 180, 0, 93]
abbrev dktJ29_balanceInsertion_6 : List UInt8 := dkwJ29_balanceInsertion_6 ++ dktJ29_balanceInsertion_7
def dkwJ29_balanceInsertion_5 : List UInt8 := [167, 0, 7, 44, 180, 0, 9, 78, 44, 198, 255, 137, 44, 3, 181, 0, 93, 45, 198, 255, 128, 45, 4]
abbrev dktJ29_balanceInsertion_5 : List UInt8 := dkwJ29_balanceInsertion_5 ++ dktJ29_balanceInsertion_6
def dkwJ29_balanceInsertion_4 : List UInt8 := [180, 0, 42, 166, 0, 29, 42, 44, 89, 76, 184, 0, 130, 75, 43, 180, 0, 9, 89, 77, 199, 0, 7, 1]
abbrev dktJ29_balanceInsertion_4 : List UInt8 := dkwJ29_balanceInsertion_4 ++ dktJ29_balanceInsertion_5
def dkwJ29_balanceInsertion_3 : List UInt8 := [25, 5, 3, 181, 0, 93, 44, 3, 181, 0, 93, 45, 4, 181, 0, 93, 45, 76, 167, 255, 175, 43, 44]
abbrev dktJ29_balanceInsertion_3 : List UInt8 := dkwJ29_balanceInsertion_3 ++ dktJ29_balanceInsertion_4
def dkwJ29_balanceInsertion_2 : List UInt8 := [58, 4, 166, 0, 103, 45, 180, 0, 42, 89, 58, 5, 198, 0, 32, 25, 5, 180, 0, 93, 153, 0, 24]
abbrev dktJ29_balanceInsertion_2 : List UInt8 := dkwJ29_balanceInsertion_2 ++ dktJ29_balanceInsertion_3
def dkwJ29_balanceInsertion_1 : List UInt8 := [180, 0, 93, 153, 0, 12, 44, 180, 0, 9, 89, 78, 199, 0, 5, 42, 176, 44, 45, 180, 0, 39, 89]
abbrev dktJ29_balanceInsertion_1 : List UInt8 := dkwJ29_balanceInsertion_1 ++ dktJ29_balanceInsertion_2
def dkwJ29_balanceInsertion_0 : List UInt8 := [43, 4, 181, 0, 93, 43, 180, 0, 9, 89, 77, 199, 0, 10, 43, 3, 181, 0, 93, 43, 176, 44]
abbrev dktJ29_balanceInsertion_0 : List UInt8 := dkwJ29_balanceInsertion_0 ++ dktJ29_balanceInsertion_1
theorem dksJ29_balanceInsertion_0 : cJ29_balanceInsertion.data.toList.drop 0 = dktJ29_balanceInsertion_0 := by decide +kernel
theorem dksJ29_balanceInsertion_1 : cJ29_balanceInsertion.data.toList.drop 22 = dktJ29_balanceInsertion_1 := dk_seg dksJ29_balanceInsertion_0 22 rfl rfl
theorem dksJ29_balanceInsertion_2 : cJ29_balanceInsertion.data.toList.drop 45 = dktJ29_balanceInsertion_2 := dk_seg dksJ29_balanceInsertion_1 23 rfl rfl
theorem dksJ29_balanceInsertion_3 : cJ29_balanceInsertion.data.toList.drop 68 = dktJ29_balanceInsertion_3 := dk_seg dksJ29_balanceInsertion_2 23 rfl rfl
theorem dksJ29_balanceInsertion_4 : cJ29_balanceInsertion.data.toList.drop 91 = dktJ29_balanceInsertion_4 := dk_seg dksJ29_balanceInsertion_3 23 rfl rfl
theorem dksJ29_balanceInsertion_5 : cJ29_balanceInsertion.data.toList.drop 115 = dktJ29_balanceInsertion_5 := dk_seg dksJ29_balanceInsertion_4 24 rfl rfl
theorem dksJ29_balanceInsertion_6 : cJ29_balanceInsertion.data.toList.drop 138 = dktJ29_balanceInsertion_6 := dk_seg dksJ29_balanceInsertion_5 23 rfl rfl
theorem dksJ29_balanceInsertion_7 : cJ29_balanceInsertion.data.toList.drop 160 = dktJ29_balanceInsertion_7 := dk_seg dksJ29_balanceInsertion_6 22 rfl rfl
theorem dksJ29_balanceInsertion_8 : cJ29_balanceInsertion.data.toList.drop 184 = dktJ29_balanceInsertion_8 := dk_seg dksJ29_balanceInsertion_7 24 rfl rfl
theorem dksJ29_balanceInsertion_9 : cJ29_balanceInsertion.data.toList.drop 206 = dktJ29_balanceInsertion_9 := dk_seg dksJ29_balanceInsertion_8 22 rfl rfl
theorem dksJ29_balanceInsertion_10 : cJ29_balanceInsertion.data.toList.drop 228 = dktJ29_balanceInsertion_10 := dk_seg dksJ29_balanceInsertion_9 22 rfl rfl
theorem dJ29_balanceInsertion_0 : decode cJ29_balanceInsertion 0 = .ok (.aload_n 1, 1) := dk_43 (dk_at dksJ29_balanceInsertion_0 0 rfl rfl)
theorem dJ29_balanceInsertion_1 : decode cJ29_balanceInsertion 1 = .ok (.iconst 1, 1) := dk_4 (dk_at dksJ29_balanceInsertion_0 1 rfl rfl)
theorem dJ29_balanceInsertion_2 : decode cJ29_balanceInsertion 2 = .ok (.putfield 93, 3) := dk_181 0 93 (dk_at dksJ29_balanceInsertion_0 2 rfl rfl)
theorem dJ29_balanceInsertion_5 : decode cJ29_balanceInsertion 5 = .ok (.aload_n 1, 1) := dk_43 (dk_at dksJ29_balanceInsertion_0 5 rfl rfl)
theorem dJ29_balanceInsertion_6 : decode cJ29_balanceInsertion 6 = .ok (.getfield 9, 3) := dk_180 0 9 (dk_at dksJ29_balanceInsertion_0 6 rfl rfl)
theorem dJ29_balanceInsertion_9 : decode cJ29_balanceInsertion 9 = .ok (.dup, 1) := dk_89 (dk_at dksJ29_balanceInsertion_0 9 rfl rfl)
theorem dJ29_balanceInsertion_10 : decode cJ29_balanceInsertion 10 = .ok (.astore_n 2, 1) := dk_77 (dk_at dksJ29_balanceInsertion_0 10 rfl rfl)
theorem dJ29_balanceInsertion_11 : decode cJ29_balanceInsertion 11 = .ok (.ifnonnull 10, 3) := dk_199 0 10 (dk_at dksJ29_balanceInsertion_0 11 rfl rfl)
theorem dJ29_balanceInsertion_14 : decode cJ29_balanceInsertion 14 = .ok (.aload_n 1, 1) := dk_43 (dk_at dksJ29_balanceInsertion_0 14 rfl rfl)
theorem dJ29_balanceInsertion_15 : decode cJ29_balanceInsertion 15 = .ok (.iconst 0, 1) := dk_3 (dk_at dksJ29_balanceInsertion_0 15 rfl rfl)
theorem dJ29_balanceInsertion_16 : decode cJ29_balanceInsertion 16 = .ok (.putfield 93, 3) := dk_181 0 93 (dk_at dksJ29_balanceInsertion_0 16 rfl rfl)
theorem dJ29_balanceInsertion_19 : decode cJ29_balanceInsertion 19 = .ok (.aload_n 1, 1) := dk_43 (dk_at dksJ29_balanceInsertion_0 19 rfl rfl)
theorem dJ29_balanceInsertion_20 : decode cJ29_balanceInsertion 20 = .ok (.areturn, 1) := dk_176 (dk_at dksJ29_balanceInsertion_0 20 rfl rfl)
theorem dJ29_balanceInsertion_21 : decode cJ29_balanceInsertion 21 = .ok (.aload_n 2, 1) := dk_44 (dk_at dksJ29_balanceInsertion_0 21 rfl rfl)
theorem dJ29_balanceInsertion_22 : decode cJ29_balanceInsertion 22 = .ok (.getfield 93, 3) := dk_180 0 93 (dk_at dksJ29_balanceInsertion_1 0 rfl rfl)
theorem dJ29_balanceInsertion_25 : decode cJ29_balanceInsertion 25 = .ok (.ifCond .eq 12, 3) := dk_153 0 12 (dk_at dksJ29_balanceInsertion_1 3 rfl rfl)
theorem dJ29_balanceInsertion_28 : decode cJ29_balanceInsertion 28 = .ok (.aload_n 2, 1) := dk_44 (dk_at dksJ29_balanceInsertion_1 6 rfl rfl)
theorem dJ29_balanceInsertion_29 : decode cJ29_balanceInsertion 29 = .ok (.getfield 9, 3) := dk_180 0 9 (dk_at dksJ29_balanceInsertion_1 7 rfl rfl)
theorem dJ29_balanceInsertion_32 : decode cJ29_balanceInsertion 32 = .ok (.dup, 1) := dk_89 (dk_at dksJ29_balanceInsertion_1 10 rfl rfl)
theorem dJ29_balanceInsertion_33 : decode cJ29_balanceInsertion 33 = .ok (.astore_n 3, 1) := dk_78 (dk_at dksJ29_balanceInsertion_1 11 rfl rfl)
theorem dJ29_balanceInsertion_34 : decode cJ29_balanceInsertion 34 = .ok (.ifnonnull 5, 3) := dk_199 0 5 (dk_at dksJ29_balanceInsertion_1 12 rfl rfl)
theorem dJ29_balanceInsertion_37 : decode cJ29_balanceInsertion 37 = .ok (.aload_n 0, 1) := dk_42 (dk_at dksJ29_balanceInsertion_1 15 rfl rfl)
theorem dJ29_balanceInsertion_38 : decode cJ29_balanceInsertion 38 = .ok (.areturn, 1) := dk_176 (dk_at dksJ29_balanceInsertion_1 16 rfl rfl)
theorem dJ29_balanceInsertion_39 : decode cJ29_balanceInsertion 39 = .ok (.aload_n 2, 1) := dk_44 (dk_at dksJ29_balanceInsertion_1 17 rfl rfl)
theorem dJ29_balanceInsertion_40 : decode cJ29_balanceInsertion 40 = .ok (.aload_n 3, 1) := dk_45 (dk_at dksJ29_balanceInsertion_1 18 rfl rfl)
theorem dJ29_balanceInsertion_41 : decode cJ29_balanceInsertion 41 = .ok (.getfield 39, 3) := dk_180 0 39 (dk_at dksJ29_balanceInsertion_1 19 rfl rfl)
theorem dJ29_balanceInsertion_44 : decode cJ29_balanceInsertion 44 = .ok (.dup, 1) := dk_89 (dk_at dksJ29_balanceInsertion_1 22 rfl rfl)
theorem dJ29_balanceInsertion_45 : decode cJ29_balanceInsertion 45 = .ok (.astore 4, 2) := dk_58 4 (dk_at dksJ29_balanceInsertion_2 0 rfl rfl)
theorem dJ29_balanceInsertion_47 : decode cJ29_balanceInsertion 47 = .ok (.if_acmp .ne 103, 3) := dk_166 0 103 (dk_at dksJ29_balanceInsertion_2 2 rfl rfl)
theorem dJ29_balanceInsertion_50 : decode cJ29_balanceInsertion 50 = .ok (.aload_n 3, 1) := dk_45 (dk_at dksJ29_balanceInsertion_2 5 rfl rfl)
theorem dJ29_balanceInsertion_51 : decode cJ29_balanceInsertion 51 = .ok (.getfield 42, 3) := dk_180 0 42 (dk_at dksJ29_balanceInsertion_2 6 rfl rfl)
theorem dJ29_balanceInsertion_54 : decode cJ29_balanceInsertion 54 = .ok (.dup, 1) := dk_89 (dk_at dksJ29_balanceInsertion_2 9 rfl rfl)
theorem dJ29_balanceInsertion_55 : decode cJ29_balanceInsertion 55 = .ok (.astore 5, 2) := dk_58 5 (dk_at dksJ29_balanceInsertion_2 10 rfl rfl)
theorem dJ29_balanceInsertion_57 : decode cJ29_balanceInsertion 57 = .ok (.ifnull 32, 3) := dk_198 0 32 (dk_at dksJ29_balanceInsertion_2 12 rfl rfl)
theorem dJ29_balanceInsertion_60 : decode cJ29_balanceInsertion 60 = .ok (.aload 5, 2) := dk_25 5 (dk_at dksJ29_balanceInsertion_2 15 rfl rfl)
theorem dJ29_balanceInsertion_62 : decode cJ29_balanceInsertion 62 = .ok (.getfield 93, 3) := dk_180 0 93 (dk_at dksJ29_balanceInsertion_2 17 rfl rfl)
theorem dJ29_balanceInsertion_65 : decode cJ29_balanceInsertion 65 = .ok (.ifCond .eq 24, 3) := dk_153 0 24 (dk_at dksJ29_balanceInsertion_2 20 rfl rfl)
theorem dJ29_balanceInsertion_68 : decode cJ29_balanceInsertion 68 = .ok (.aload 5, 2) := dk_25 5 (dk_at dksJ29_balanceInsertion_3 0 rfl rfl)
theorem dJ29_balanceInsertion_70 : decode cJ29_balanceInsertion 70 = .ok (.iconst 0, 1) := dk_3 (dk_at dksJ29_balanceInsertion_3 2 rfl rfl)
theorem dJ29_balanceInsertion_71 : decode cJ29_balanceInsertion 71 = .ok (.putfield 93, 3) := dk_181 0 93 (dk_at dksJ29_balanceInsertion_3 3 rfl rfl)
theorem dJ29_balanceInsertion_74 : decode cJ29_balanceInsertion 74 = .ok (.aload_n 2, 1) := dk_44 (dk_at dksJ29_balanceInsertion_3 6 rfl rfl)
theorem dJ29_balanceInsertion_75 : decode cJ29_balanceInsertion 75 = .ok (.iconst 0, 1) := dk_3 (dk_at dksJ29_balanceInsertion_3 7 rfl rfl)
theorem dJ29_balanceInsertion_76 : decode cJ29_balanceInsertion 76 = .ok (.putfield 93, 3) := dk_181 0 93 (dk_at dksJ29_balanceInsertion_3 8 rfl rfl)
theorem dJ29_balanceInsertion_79 : decode cJ29_balanceInsertion 79 = .ok (.aload_n 3, 1) := dk_45 (dk_at dksJ29_balanceInsertion_3 11 rfl rfl)
theorem dJ29_balanceInsertion_80 : decode cJ29_balanceInsertion 80 = .ok (.iconst 1, 1) := dk_4 (dk_at dksJ29_balanceInsertion_3 12 rfl rfl)
theorem dJ29_balanceInsertion_81 : decode cJ29_balanceInsertion 81 = .ok (.putfield 93, 3) := dk_181 0 93 (dk_at dksJ29_balanceInsertion_3 13 rfl rfl)
theorem dJ29_balanceInsertion_84 : decode cJ29_balanceInsertion 84 = .ok (.aload_n 3, 1) := dk_45 (dk_at dksJ29_balanceInsertion_3 16 rfl rfl)
theorem dJ29_balanceInsertion_85 : decode cJ29_balanceInsertion 85 = .ok (.astore_n 1, 1) := dk_76 (dk_at dksJ29_balanceInsertion_3 17 rfl rfl)
theorem dJ29_balanceInsertion_86 : decode cJ29_balanceInsertion 86 = .ok (.goto (-81), 3) := dk_167 255 175 (dk_at dksJ29_balanceInsertion_3 18 rfl rfl)
theorem dJ29_balanceInsertion_89 : decode cJ29_balanceInsertion 89 = .ok (.aload_n 1, 1) := dk_43 (dk_at dksJ29_balanceInsertion_3 21 rfl rfl)
theorem dJ29_balanceInsertion_90 : decode cJ29_balanceInsertion 90 = .ok (.aload_n 2, 1) := dk_44 (dk_at dksJ29_balanceInsertion_3 22 rfl rfl)
theorem dJ29_balanceInsertion_91 : decode cJ29_balanceInsertion 91 = .ok (.getfield 42, 3) := dk_180 0 42 (dk_at dksJ29_balanceInsertion_4 0 rfl rfl)
theorem dJ29_balanceInsertion_94 : decode cJ29_balanceInsertion 94 = .ok (.if_acmp .ne 29, 3) := dk_166 0 29 (dk_at dksJ29_balanceInsertion_4 3 rfl rfl)
theorem dJ29_balanceInsertion_97 : decode cJ29_balanceInsertion 97 = .ok (.aload_n 0, 1) := dk_42 (dk_at dksJ29_balanceInsertion_4 6 rfl rfl)
theorem dJ29_balanceInsertion_98 : decode cJ29_balanceInsertion 98 = .ok (.aload_n 2, 1) := dk_44 (dk_at dksJ29_balanceInsertion_4 7 rfl rfl)
theorem dJ29_balanceInsertion_99 : decode cJ29_balanceInsertion 99 = .ok (.dup, 1) := dk_89 (dk_at dksJ29_balanceInsertion_4 8 rfl rfl)
theorem dJ29_balanceInsertion_100 : decode cJ29_balanceInsertion 100 = .ok (.astore_n 1, 1) := dk_76 (dk_at dksJ29_balanceInsertion_4 9 rfl rfl)
theorem dJ29_balanceInsertion_101 : decode cJ29_balanceInsertion 101 = .ok (.invokestatic 130, 3) := dk_184 0 130 (dk_at dksJ29_balanceInsertion_4 10 rfl rfl)
theorem dJ29_balanceInsertion_104 : decode cJ29_balanceInsertion 104 = .ok (.astore_n 0, 1) := dk_75 (dk_at dksJ29_balanceInsertion_4 13 rfl rfl)
theorem dJ29_balanceInsertion_105 : decode cJ29_balanceInsertion 105 = .ok (.aload_n 1, 1) := dk_43 (dk_at dksJ29_balanceInsertion_4 14 rfl rfl)
theorem dJ29_balanceInsertion_106 : decode cJ29_balanceInsertion 106 = .ok (.getfield 9, 3) := dk_180 0 9 (dk_at dksJ29_balanceInsertion_4 15 rfl rfl)
theorem dJ29_balanceInsertion_109 : decode cJ29_balanceInsertion 109 = .ok (.dup, 1) := dk_89 (dk_at dksJ29_balanceInsertion_4 18 rfl rfl)
theorem dJ29_balanceInsertion_110 : decode cJ29_balanceInsertion 110 = .ok (.astore_n 2, 1) := dk_77 (dk_at dksJ29_balanceInsertion_4 19 rfl rfl)
theorem dJ29_balanceInsertion_111 : decode cJ29_balanceInsertion 111 = .ok (.ifnonnull 7, 3) := dk_199 0 7 (dk_at dksJ29_balanceInsertion_4 20 rfl rfl)
theorem dJ29_balanceInsertion_114 : decode cJ29_balanceInsertion 114 = .ok (.aconst_null, 1) := dk_1 (dk_at dksJ29_balanceInsertion_4 23 rfl rfl)
theorem dJ29_balanceInsertion_115 : decode cJ29_balanceInsertion 115 = .ok (.goto 7, 3) := dk_167 0 7 (dk_at dksJ29_balanceInsertion_5 0 rfl rfl)
theorem dJ29_balanceInsertion_118 : decode cJ29_balanceInsertion 118 = .ok (.aload_n 2, 1) := dk_44 (dk_at dksJ29_balanceInsertion_5 3 rfl rfl)
theorem dJ29_balanceInsertion_119 : decode cJ29_balanceInsertion 119 = .ok (.getfield 9, 3) := dk_180 0 9 (dk_at dksJ29_balanceInsertion_5 4 rfl rfl)
theorem dJ29_balanceInsertion_122 : decode cJ29_balanceInsertion 122 = .ok (.astore_n 3, 1) := dk_78 (dk_at dksJ29_balanceInsertion_5 7 rfl rfl)
theorem dJ29_balanceInsertion_123 : decode cJ29_balanceInsertion 123 = .ok (.aload_n 2, 1) := dk_44 (dk_at dksJ29_balanceInsertion_5 8 rfl rfl)
theorem dJ29_balanceInsertion_124 : decode cJ29_balanceInsertion 124 = .ok (.ifnull (-119), 3) := dk_198 255 137 (dk_at dksJ29_balanceInsertion_5 9 rfl rfl)
theorem dJ29_balanceInsertion_127 : decode cJ29_balanceInsertion 127 = .ok (.aload_n 2, 1) := dk_44 (dk_at dksJ29_balanceInsertion_5 12 rfl rfl)
theorem dJ29_balanceInsertion_128 : decode cJ29_balanceInsertion 128 = .ok (.iconst 0, 1) := dk_3 (dk_at dksJ29_balanceInsertion_5 13 rfl rfl)
theorem dJ29_balanceInsertion_129 : decode cJ29_balanceInsertion 129 = .ok (.putfield 93, 3) := dk_181 0 93 (dk_at dksJ29_balanceInsertion_5 14 rfl rfl)
theorem dJ29_balanceInsertion_132 : decode cJ29_balanceInsertion 132 = .ok (.aload_n 3, 1) := dk_45 (dk_at dksJ29_balanceInsertion_5 17 rfl rfl)
theorem dJ29_balanceInsertion_133 : decode cJ29_balanceInsertion 133 = .ok (.ifnull (-128), 3) := dk_198 255 128 (dk_at dksJ29_balanceInsertion_5 18 rfl rfl)
theorem dJ29_balanceInsertion_136 : decode cJ29_balanceInsertion 136 = .ok (.aload_n 3, 1) := dk_45 (dk_at dksJ29_balanceInsertion_5 21 rfl rfl)
theorem dJ29_balanceInsertion_137 : decode cJ29_balanceInsertion 137 = .ok (.iconst 1, 1) := dk_4 (dk_at dksJ29_balanceInsertion_5 22 rfl rfl)
theorem dJ29_balanceInsertion_138 : decode cJ29_balanceInsertion 138 = .ok (.putfield 93, 3) := dk_181 0 93 (dk_at dksJ29_balanceInsertion_6 0 rfl rfl)
theorem dJ29_balanceInsertion_141 : decode cJ29_balanceInsertion 141 = .ok (.aload_n 0, 1) := dk_42 (dk_at dksJ29_balanceInsertion_6 3 rfl rfl)
theorem dJ29_balanceInsertion_142 : decode cJ29_balanceInsertion 142 = .ok (.aload_n 3, 1) := dk_45 (dk_at dksJ29_balanceInsertion_6 4 rfl rfl)
theorem dJ29_balanceInsertion_143 : decode cJ29_balanceInsertion 143 = .ok (.invokestatic 133, 3) := dk_184 0 133 (dk_at dksJ29_balanceInsertion_6 5 rfl rfl)
theorem dJ29_balanceInsertion_146 : decode cJ29_balanceInsertion 146 = .ok (.astore_n 0, 1) := dk_75 (dk_at dksJ29_balanceInsertion_6 8 rfl rfl)
theorem dJ29_balanceInsertion_147 : decode cJ29_balanceInsertion 147 = .ok (.goto (-142), 3) := dk_167 255 114 (dk_at dksJ29_balanceInsertion_6 9 rfl rfl)
theorem dJ29_balanceInsertion_150 : decode cJ29_balanceInsertion 150 = .ok (.aload 4, 2) := dk_25 4 (dk_at dksJ29_balanceInsertion_6 12 rfl rfl)
theorem dJ29_balanceInsertion_152 : decode cJ29_balanceInsertion 152 = .ok (.ifnull 32, 3) := dk_198 0 32 (dk_at dksJ29_balanceInsertion_6 14 rfl rfl)
theorem dJ29_balanceInsertion_155 : decode cJ29_balanceInsertion 155 = .ok (.aload 4, 2) := dk_25 4 (dk_at dksJ29_balanceInsertion_6 17 rfl rfl)
theorem dJ29_balanceInsertion_157 : decode cJ29_balanceInsertion 157 = .ok (.getfield 93, 3) := dk_180 0 93 (dk_at dksJ29_balanceInsertion_6 19 rfl rfl)
theorem dJ29_balanceInsertion_160 : decode cJ29_balanceInsertion 160 = .ok (.ifCond .eq 24, 3) := dk_153 0 24 (dk_at dksJ29_balanceInsertion_7 0 rfl rfl)
theorem dJ29_balanceInsertion_163 : decode cJ29_balanceInsertion 163 = .ok (.aload 4, 2) := dk_25 4 (dk_at dksJ29_balanceInsertion_7 3 rfl rfl)
theorem dJ29_balanceInsertion_165 : decode cJ29_balanceInsertion 165 = .ok (.iconst 0, 1) := dk_3 (dk_at dksJ29_balanceInsertion_7 5 rfl rfl)
theorem dJ29_balanceInsertion_166 : decode cJ29_balanceInsertion 166 = .ok (.putfield 93, 3) := dk_181 0 93 (dk_at dksJ29_balanceInsertion_7 6 rfl rfl)
theorem dJ29_balanceInsertion_169 : decode cJ29_balanceInsertion 169 = .ok (.aload_n 2, 1) := dk_44 (dk_at dksJ29_balanceInsertion_7 9 rfl rfl)
theorem dJ29_balanceInsertion_170 : decode cJ29_balanceInsertion 170 = .ok (.iconst 0, 1) := dk_3 (dk_at dksJ29_balanceInsertion_7 10 rfl rfl)
theorem dJ29_balanceInsertion_171 : decode cJ29_balanceInsertion 171 = .ok (.putfield 93, 3) := dk_181 0 93 (dk_at dksJ29_balanceInsertion_7 11 rfl rfl)
theorem dJ29_balanceInsertion_174 : decode cJ29_balanceInsertion 174 = .ok (.aload_n 3, 1) := dk_45 (dk_at dksJ29_balanceInsertion_7 14 rfl rfl)
theorem dJ29_balanceInsertion_175 : decode cJ29_balanceInsertion 175 = .ok (.iconst 1, 1) := dk_4 (dk_at dksJ29_balanceInsertion_7 15 rfl rfl)
theorem dJ29_balanceInsertion_176 : decode cJ29_balanceInsertion 176 = .ok (.putfield 93, 3) := dk_181 0 93 (dk_at dksJ29_balanceInsertion_7 16 rfl rfl)
theorem dJ29_balanceInsertion_179 : decode cJ29_balanceInsertion 179 = .ok (.aload_n 3, 1) := dk_45 (dk_at dksJ29_balanceInsertion_7 19 rfl rfl)
theorem dJ29_balanceInsertion_180 : decode cJ29_balanceInsertion 180 = .ok (.astore_n 1, 1) := dk_76 (dk_at dksJ29_balanceInsertion_7 20 rfl rfl)
theorem dJ29_balanceInsertion_181 : decode cJ29_balanceInsertion 181 = .ok (.goto (-176), 3) := dk_167 255 80 (dk_at dksJ29_balanceInsertion_7 21 rfl rfl)
theorem dJ29_balanceInsertion_184 : decode cJ29_balanceInsertion 184 = .ok (.aload_n 1, 1) := dk_43 (dk_at dksJ29_balanceInsertion_8 0 rfl rfl)
theorem dJ29_balanceInsertion_185 : decode cJ29_balanceInsertion 185 = .ok (.aload_n 2, 1) := dk_44 (dk_at dksJ29_balanceInsertion_8 1 rfl rfl)
theorem dJ29_balanceInsertion_186 : decode cJ29_balanceInsertion 186 = .ok (.getfield 39, 3) := dk_180 0 39 (dk_at dksJ29_balanceInsertion_8 2 rfl rfl)
theorem dJ29_balanceInsertion_189 : decode cJ29_balanceInsertion 189 = .ok (.if_acmp .ne 29, 3) := dk_166 0 29 (dk_at dksJ29_balanceInsertion_8 5 rfl rfl)
theorem dJ29_balanceInsertion_192 : decode cJ29_balanceInsertion 192 = .ok (.aload_n 0, 1) := dk_42 (dk_at dksJ29_balanceInsertion_8 8 rfl rfl)
theorem dJ29_balanceInsertion_193 : decode cJ29_balanceInsertion 193 = .ok (.aload_n 2, 1) := dk_44 (dk_at dksJ29_balanceInsertion_8 9 rfl rfl)
theorem dJ29_balanceInsertion_194 : decode cJ29_balanceInsertion 194 = .ok (.dup, 1) := dk_89 (dk_at dksJ29_balanceInsertion_8 10 rfl rfl)
theorem dJ29_balanceInsertion_195 : decode cJ29_balanceInsertion 195 = .ok (.astore_n 1, 1) := dk_76 (dk_at dksJ29_balanceInsertion_8 11 rfl rfl)
theorem dJ29_balanceInsertion_196 : decode cJ29_balanceInsertion 196 = .ok (.invokestatic 133, 3) := dk_184 0 133 (dk_at dksJ29_balanceInsertion_8 12 rfl rfl)
theorem dJ29_balanceInsertion_199 : decode cJ29_balanceInsertion 199 = .ok (.astore_n 0, 1) := dk_75 (dk_at dksJ29_balanceInsertion_8 15 rfl rfl)
theorem dJ29_balanceInsertion_200 : decode cJ29_balanceInsertion 200 = .ok (.aload_n 1, 1) := dk_43 (dk_at dksJ29_balanceInsertion_8 16 rfl rfl)
theorem dJ29_balanceInsertion_201 : decode cJ29_balanceInsertion 201 = .ok (.getfield 9, 3) := dk_180 0 9 (dk_at dksJ29_balanceInsertion_8 17 rfl rfl)
theorem dJ29_balanceInsertion_204 : decode cJ29_balanceInsertion 204 = .ok (.dup, 1) := dk_89 (dk_at dksJ29_balanceInsertion_8 20 rfl rfl)
theorem dJ29_balanceInsertion_205 : decode cJ29_balanceInsertion 205 = .ok (.astore_n 2, 1) := dk_77 (dk_at dksJ29_balanceInsertion_8 21 rfl rfl)
theorem dJ29_balanceInsertion_206 : decode cJ29_balanceInsertion 206 = .ok (.ifnonnull 7, 3) := dk_199 0 7 (dk_at dksJ29_balanceInsertion_9 0 rfl rfl)
theorem dJ29_balanceInsertion_209 : decode cJ29_balanceInsertion 209 = .ok (.aconst_null, 1) := dk_1 (dk_at dksJ29_balanceInsertion_9 3 rfl rfl)
theorem dJ29_balanceInsertion_210 : decode cJ29_balanceInsertion 210 = .ok (.goto 7, 3) := dk_167 0 7 (dk_at dksJ29_balanceInsertion_9 4 rfl rfl)
theorem dJ29_balanceInsertion_213 : decode cJ29_balanceInsertion 213 = .ok (.aload_n 2, 1) := dk_44 (dk_at dksJ29_balanceInsertion_9 7 rfl rfl)
theorem dJ29_balanceInsertion_214 : decode cJ29_balanceInsertion 214 = .ok (.getfield 9, 3) := dk_180 0 9 (dk_at dksJ29_balanceInsertion_9 8 rfl rfl)
theorem dJ29_balanceInsertion_217 : decode cJ29_balanceInsertion 217 = .ok (.astore_n 3, 1) := dk_78 (dk_at dksJ29_balanceInsertion_9 11 rfl rfl)
theorem dJ29_balanceInsertion_218 : decode cJ29_balanceInsertion 218 = .ok (.aload_n 2, 1) := dk_44 (dk_at dksJ29_balanceInsertion_9 12 rfl rfl)
theorem dJ29_balanceInsertion_219 : decode cJ29_balanceInsertion 219 = .ok (.ifnull (-214), 3) := dk_198 255 42 (dk_at dksJ29_balanceInsertion_9 13 rfl rfl)
theorem dJ29_balanceInsertion_222 : decode cJ29_balanceInsertion 222 = .ok (.aload_n 2, 1) := dk_44 (dk_at dksJ29_balanceInsertion_9 16 rfl rfl)
theorem dJ29_balanceInsertion_223 : decode cJ29_balanceInsertion 223 = .ok (.iconst 0, 1) := dk_3 (dk_at dksJ29_balanceInsertion_9 17 rfl rfl)
theorem dJ29_balanceInsertion_224 : decode cJ29_balanceInsertion 224 = .ok (.putfield 93, 3) := dk_181 0 93 (dk_at dksJ29_balanceInsertion_9 18 rfl rfl)
theorem dJ29_balanceInsertion_227 : decode cJ29_balanceInsertion 227 = .ok (.aload_n 3, 1) := dk_45 (dk_at dksJ29_balanceInsertion_9 21 rfl rfl)
theorem dJ29_balanceInsertion_228 : decode cJ29_balanceInsertion 228 = .ok (.ifnull (-223), 3) := dk_198 255 33 (dk_at dksJ29_balanceInsertion_10 0 rfl rfl)
theorem dJ29_balanceInsertion_231 : decode cJ29_balanceInsertion 231 = .ok (.aload_n 3, 1) := dk_45 (dk_at dksJ29_balanceInsertion_10 3 rfl rfl)
theorem dJ29_balanceInsertion_232 : decode cJ29_balanceInsertion 232 = .ok (.iconst 1, 1) := dk_4 (dk_at dksJ29_balanceInsertion_10 4 rfl rfl)
theorem dJ29_balanceInsertion_233 : decode cJ29_balanceInsertion 233 = .ok (.putfield 93, 3) := dk_181 0 93 (dk_at dksJ29_balanceInsertion_10 5 rfl rfl)
theorem dJ29_balanceInsertion_236 : decode cJ29_balanceInsertion 236 = .ok (.aload_n 0, 1) := dk_42 (dk_at dksJ29_balanceInsertion_10 8 rfl rfl)
theorem dJ29_balanceInsertion_237 : decode cJ29_balanceInsertion 237 = .ok (.aload_n 3, 1) := dk_45 (dk_at dksJ29_balanceInsertion_10 9 rfl rfl)
theorem dJ29_balanceInsertion_238 : decode cJ29_balanceInsertion 238 = .ok (.invokestatic 130, 3) := dk_184 0 130 (dk_at dksJ29_balanceInsertion_10 10 rfl rfl)
theorem dJ29_balanceInsertion_241 : decode cJ29_balanceInsertion 241 = .ok (.astore_n 0, 1) := dk_75 (dk_at dksJ29_balanceInsertion_10 13 rfl rfl)
theorem dJ29_balanceInsertion_242 : decode cJ29_balanceInsertion 242 = .ok (.goto (-237), 3) := dk_167 255 19 (dk_at dksJ29_balanceInsertion_10 14 rfl rfl)
abbrev cJ29_rotateLeft : ByteArray := prog_81_method_12_code
def yJ29_rotateLeft : MethodName := ⟨RJ29, "rotateLeft", "(Ljava/util/HashMap$TreeNode;Ljava/util/HashMap$TreeNode;)Ljava/util/HashMap$TreeNode;"⟩
def dkwJ29_rotateLeft_3 : List UInt8 := [181, 0, 39, 167, 0, 8, 45, 44, 181, 0, 42, 44, 43, 181, 0, 39, 43, 44, 181, 0, 9, 42, 176]
abbrev dktJ29_rotateLeft_3 : List UInt8 := dkwJ29_rotateLeft_3 ++ []
def dkwJ29_rotateLeft_2 : List UInt8 := [199, 0, 13, 44, 89, 75, 3, 181, 0, 93, 167, 0, 24, 45, 180, 0, 39, 43, 166, 0, 11, 45, 44]
abbrev dktJ29_rotateLeft_2 : List UInt8 := dkwJ29_rotateLeft_2 ++ dktJ29_rotateLeft_3
def dkwJ29_rotateLeft_1 : List UInt8 := [58, 4, 198, 0, 9, 25, 4, 43, 181, 0, 9, 44, 43, 180, 0, 9, 90, 181, 0, 9, 89, 78]
abbrev dktJ29_rotateLeft_1 : List UInt8 := dkwJ29_rotateLeft_1 ++ dktJ29_rotateLeft_2
def dkwJ29_rotateLeft_0 : List UInt8 := [43, 198, 0, 88, 43, 180, 0, 42, 89, 77, 198, 0, 79, 43, 44, 180, 0, 39, 90, 181, 0, 42, 89]
abbrev dktJ29_rotateLeft_0 : List UInt8 := dkwJ29_rotateLeft_0 ++ dktJ29_rotateLeft_1
theorem dksJ29_rotateLeft_0 : cJ29_rotateLeft.data.toList.drop 0 = dktJ29_rotateLeft_0 := by decide +kernel
theorem dksJ29_rotateLeft_1 : cJ29_rotateLeft.data.toList.drop 23 = dktJ29_rotateLeft_1 := dk_seg dksJ29_rotateLeft_0 23 rfl rfl
theorem dksJ29_rotateLeft_2 : cJ29_rotateLeft.data.toList.drop 45 = dktJ29_rotateLeft_2 := dk_seg dksJ29_rotateLeft_1 22 rfl rfl
theorem dksJ29_rotateLeft_3 : cJ29_rotateLeft.data.toList.drop 68 = dktJ29_rotateLeft_3 := dk_seg dksJ29_rotateLeft_2 23 rfl rfl
theorem dJ29_rotateLeft_0 : decode cJ29_rotateLeft 0 = .ok (.aload_n 1, 1) := dk_43 (dk_at dksJ29_rotateLeft_0 0 rfl rfl)
theorem dJ29_rotateLeft_1 : decode cJ29_rotateLeft 1 = .ok (.ifnull 88, 3) := dk_198 0 88 (dk_at dksJ29_rotateLeft_0 1 rfl rfl)
theorem dJ29_rotateLeft_4 : decode cJ29_rotateLeft 4 = .ok (.aload_n 1, 1) := dk_43 (dk_at dksJ29_rotateLeft_0 4 rfl rfl)
theorem dJ29_rotateLeft_5 : decode cJ29_rotateLeft 5 = .ok (.getfield 42, 3) := dk_180 0 42 (dk_at dksJ29_rotateLeft_0 5 rfl rfl)
theorem dJ29_rotateLeft_8 : decode cJ29_rotateLeft 8 = .ok (.dup, 1) := dk_89 (dk_at dksJ29_rotateLeft_0 8 rfl rfl)
theorem dJ29_rotateLeft_9 : decode cJ29_rotateLeft 9 = .ok (.astore_n 2, 1) := dk_77 (dk_at dksJ29_rotateLeft_0 9 rfl rfl)
theorem dJ29_rotateLeft_10 : decode cJ29_rotateLeft 10 = .ok (.ifnull 79, 3) := dk_198 0 79 (dk_at dksJ29_rotateLeft_0 10 rfl rfl)
theorem dJ29_rotateLeft_13 : decode cJ29_rotateLeft 13 = .ok (.aload_n 1, 1) := dk_43 (dk_at dksJ29_rotateLeft_0 13 rfl rfl)
theorem dJ29_rotateLeft_14 : decode cJ29_rotateLeft 14 = .ok (.aload_n 2, 1) := dk_44 (dk_at dksJ29_rotateLeft_0 14 rfl rfl)
theorem dJ29_rotateLeft_15 : decode cJ29_rotateLeft 15 = .ok (.getfield 39, 3) := dk_180 0 39 (dk_at dksJ29_rotateLeft_0 15 rfl rfl)
theorem dJ29_rotateLeft_18 : decode cJ29_rotateLeft 18 = .ok (.dup_x1, 1) := dk_90 (dk_at dksJ29_rotateLeft_0 18 rfl rfl)
theorem dJ29_rotateLeft_19 : decode cJ29_rotateLeft 19 = .ok (.putfield 42, 3) := dk_181 0 42 (dk_at dksJ29_rotateLeft_0 19 rfl rfl)
theorem dJ29_rotateLeft_22 : decode cJ29_rotateLeft 22 = .ok (.dup, 1) := dk_89 (dk_at dksJ29_rotateLeft_0 22 rfl rfl)
theorem dJ29_rotateLeft_23 : decode cJ29_rotateLeft 23 = .ok (.astore 4, 2) := dk_58 4 (dk_at dksJ29_rotateLeft_1 0 rfl rfl)
theorem dJ29_rotateLeft_25 : decode cJ29_rotateLeft 25 = .ok (.ifnull 9, 3) := dk_198 0 9 (dk_at dksJ29_rotateLeft_1 2 rfl rfl)
theorem dJ29_rotateLeft_28 : decode cJ29_rotateLeft 28 = .ok (.aload 4, 2) := dk_25 4 (dk_at dksJ29_rotateLeft_1 5 rfl rfl)
theorem dJ29_rotateLeft_30 : decode cJ29_rotateLeft 30 = .ok (.aload_n 1, 1) := dk_43 (dk_at dksJ29_rotateLeft_1 7 rfl rfl)
theorem dJ29_rotateLeft_31 : decode cJ29_rotateLeft 31 = .ok (.putfield 9, 3) := dk_181 0 9 (dk_at dksJ29_rotateLeft_1 8 rfl rfl)
theorem dJ29_rotateLeft_34 : decode cJ29_rotateLeft 34 = .ok (.aload_n 2, 1) := dk_44 (dk_at dksJ29_rotateLeft_1 11 rfl rfl)
theorem dJ29_rotateLeft_35 : decode cJ29_rotateLeft 35 = .ok (.aload_n 1, 1) := dk_43 (dk_at dksJ29_rotateLeft_1 12 rfl rfl)
theorem dJ29_rotateLeft_36 : decode cJ29_rotateLeft 36 = .ok (.getfield 9, 3) := dk_180 0 9 (dk_at dksJ29_rotateLeft_1 13 rfl rfl)
theorem dJ29_rotateLeft_39 : decode cJ29_rotateLeft 39 = .ok (.dup_x1, 1) := dk_90 (dk_at dksJ29_rotateLeft_1 16 rfl rfl)
theorem dJ29_rotateLeft_40 : decode cJ29_rotateLeft 40 = .ok (.putfield 9, 3) := dk_181 0 9 (dk_at dksJ29_rotateLeft_1 17 rfl rfl)
theorem dJ29_rotateLeft_43 : decode cJ29_rotateLeft 43 = .ok (.dup, 1) := dk_89 (dk_at dksJ29_rotateLeft_1 20 rfl rfl)
theorem dJ29_rotateLeft_44 : decode cJ29_rotateLeft 44 = .ok (.astore_n 3, 1) := dk_78 (dk_at dksJ29_rotateLeft_1 21 rfl rfl)
theorem dJ29_rotateLeft_45 : decode cJ29_rotateLeft 45 = .ok (.ifnonnull 13, 3) := dk_199 0 13 (dk_at dksJ29_rotateLeft_2 0 rfl rfl)
theorem dJ29_rotateLeft_48 : decode cJ29_rotateLeft 48 = .ok (.aload_n 2, 1) := dk_44 (dk_at dksJ29_rotateLeft_2 3 rfl rfl)
theorem dJ29_rotateLeft_49 : decode cJ29_rotateLeft 49 = .ok (.dup, 1) := dk_89 (dk_at dksJ29_rotateLeft_2 4 rfl rfl)
theorem dJ29_rotateLeft_50 : decode cJ29_rotateLeft 50 = .ok (.astore_n 0, 1) := dk_75 (dk_at dksJ29_rotateLeft_2 5 rfl rfl)
theorem dJ29_rotateLeft_51 : decode cJ29_rotateLeft 51 = .ok (.iconst 0, 1) := dk_3 (dk_at dksJ29_rotateLeft_2 6 rfl rfl)
theorem dJ29_rotateLeft_52 : decode cJ29_rotateLeft 52 = .ok (.putfield 93, 3) := dk_181 0 93 (dk_at dksJ29_rotateLeft_2 7 rfl rfl)
theorem dJ29_rotateLeft_55 : decode cJ29_rotateLeft 55 = .ok (.goto 24, 3) := dk_167 0 24 (dk_at dksJ29_rotateLeft_2 10 rfl rfl)
theorem dJ29_rotateLeft_58 : decode cJ29_rotateLeft 58 = .ok (.aload_n 3, 1) := dk_45 (dk_at dksJ29_rotateLeft_2 13 rfl rfl)
theorem dJ29_rotateLeft_59 : decode cJ29_rotateLeft 59 = .ok (.getfield 39, 3) := dk_180 0 39 (dk_at dksJ29_rotateLeft_2 14 rfl rfl)
theorem dJ29_rotateLeft_62 : decode cJ29_rotateLeft 62 = .ok (.aload_n 1, 1) := dk_43 (dk_at dksJ29_rotateLeft_2 17 rfl rfl)
theorem dJ29_rotateLeft_63 : decode cJ29_rotateLeft 63 = .ok (.if_acmp .ne 11, 3) := dk_166 0 11 (dk_at dksJ29_rotateLeft_2 18 rfl rfl)
theorem dJ29_rotateLeft_66 : decode cJ29_rotateLeft 66 = .ok (.aload_n 3, 1) := dk_45 (dk_at dksJ29_rotateLeft_2 21 rfl rfl)
theorem dJ29_rotateLeft_67 : decode cJ29_rotateLeft 67 = .ok (.aload_n 2, 1) := dk_44 (dk_at dksJ29_rotateLeft_2 22 rfl rfl)
theorem dJ29_rotateLeft_68 : decode cJ29_rotateLeft 68 = .ok (.putfield 39, 3) := dk_181 0 39 (dk_at dksJ29_rotateLeft_3 0 rfl rfl)
theorem dJ29_rotateLeft_71 : decode cJ29_rotateLeft 71 = .ok (.goto 8, 3) := dk_167 0 8 (dk_at dksJ29_rotateLeft_3 3 rfl rfl)
theorem dJ29_rotateLeft_74 : decode cJ29_rotateLeft 74 = .ok (.aload_n 3, 1) := dk_45 (dk_at dksJ29_rotateLeft_3 6 rfl rfl)
theorem dJ29_rotateLeft_75 : decode cJ29_rotateLeft 75 = .ok (.aload_n 2, 1) := dk_44 (dk_at dksJ29_rotateLeft_3 7 rfl rfl)
theorem dJ29_rotateLeft_76 : decode cJ29_rotateLeft 76 = .ok (.putfield 42, 3) := dk_181 0 42 (dk_at dksJ29_rotateLeft_3 8 rfl rfl)
theorem dJ29_rotateLeft_79 : decode cJ29_rotateLeft 79 = .ok (.aload_n 2, 1) := dk_44 (dk_at dksJ29_rotateLeft_3 11 rfl rfl)
theorem dJ29_rotateLeft_80 : decode cJ29_rotateLeft 80 = .ok (.aload_n 1, 1) := dk_43 (dk_at dksJ29_rotateLeft_3 12 rfl rfl)
theorem dJ29_rotateLeft_81 : decode cJ29_rotateLeft 81 = .ok (.putfield 39, 3) := dk_181 0 39 (dk_at dksJ29_rotateLeft_3 13 rfl rfl)
theorem dJ29_rotateLeft_84 : decode cJ29_rotateLeft 84 = .ok (.aload_n 1, 1) := dk_43 (dk_at dksJ29_rotateLeft_3 16 rfl rfl)
theorem dJ29_rotateLeft_85 : decode cJ29_rotateLeft 85 = .ok (.aload_n 2, 1) := dk_44 (dk_at dksJ29_rotateLeft_3 17 rfl rfl)
theorem dJ29_rotateLeft_86 : decode cJ29_rotateLeft 86 = .ok (.putfield 9, 3) := dk_181 0 9 (dk_at dksJ29_rotateLeft_3 18 rfl rfl)
theorem dJ29_rotateLeft_89 : decode cJ29_rotateLeft 89 = .ok (.aload_n 0, 1) := dk_42 (dk_at dksJ29_rotateLeft_3 21 rfl rfl)
theorem dJ29_rotateLeft_90 : decode cJ29_rotateLeft 90 = .ok (.areturn, 1) := dk_176 (dk_at dksJ29_rotateLeft_3 22 rfl rfl)
abbrev cJ29_rotateRight : ByteArray := prog_81_method_13_code
def yJ29_rotateRight : MethodName := ⟨RJ29, "rotateRight", "(Ljava/util/HashMap$TreeNode;Ljava/util/HashMap$TreeNode;)Ljava/util/HashMap$TreeNode;"⟩
def dkwJ29_rotateRight_3 : List UInt8 := [181, 0, 42, 167, 0, 8, 45, 44, 181, 0, 39, 44, 43, 181, 0, 42, 43, 44, 181, 0, 9, 42, 176]
abbrev dktJ29_rotateRight_3 : List UInt8 := dkwJ29_rotateRight_3 ++ []
def dkwJ29_rotateRight_2 : List UInt8 := [199, 0, 13, 44, 89, 75, 3, 181, 0, 93, 167, 0, 24, 45, 180, 0, 42, 43, 166, 0, 11, 45, 44]
abbrev dktJ29_rotateRight_2 : List UInt8 := dkwJ29_rotateRight_2 ++ dktJ29_rotateRight_3
def dkwJ29_rotateRight_1 : List UInt8 := [58, 4, 198, 0, 9, 25, 4, 43, 181, 0, 9, 44, 43, 180, 0, 9, 90, 181, 0, 9, 89, 78]
abbrev dktJ29_rotateRight_1 : List UInt8 := dkwJ29_rotateRight_1 ++ dktJ29_rotateRight_2
def dkwJ29_rotateRight_0 : List UInt8 := [43, 198, 0, 88, 43, 180, 0, 39, 89, 77, 198, 0, 79, 43, 44, 180, 0, 42, 90, 181, 0, 39, 89]
abbrev dktJ29_rotateRight_0 : List UInt8 := dkwJ29_rotateRight_0 ++ dktJ29_rotateRight_1
theorem dksJ29_rotateRight_0 : cJ29_rotateRight.data.toList.drop 0 = dktJ29_rotateRight_0 := by decide +kernel
theorem dksJ29_rotateRight_1 : cJ29_rotateRight.data.toList.drop 23 = dktJ29_rotateRight_1 := dk_seg dksJ29_rotateRight_0 23 rfl rfl
theorem dksJ29_rotateRight_2 : cJ29_rotateRight.data.toList.drop 45 = dktJ29_rotateRight_2 := dk_seg dksJ29_rotateRight_1 22 rfl rfl
theorem dksJ29_rotateRight_3 : cJ29_rotateRight.data.toList.drop 68 = dktJ29_rotateRight_3 := dk_seg dksJ29_rotateRight_2 23 rfl rfl
theorem dJ29_rotateRight_0 : decode cJ29_rotateRight 0 = .ok (.aload_n 1, 1) := dk_43 (dk_at dksJ29_rotateRight_0 0 rfl rfl)
theorem dJ29_rotateRight_1 : decode cJ29_rotateRight 1 = .ok (.ifnull 88, 3) := dk_198 0 88 (dk_at dksJ29_rotateRight_0 1 rfl rfl)
theorem dJ29_rotateRight_4 : decode cJ29_rotateRight 4 = .ok (.aload_n 1, 1) := dk_43 (dk_at dksJ29_rotateRight_0 4 rfl rfl)
theorem dJ29_rotateRight_5 : decode cJ29_rotateRight 5 = .ok (.getfield 39, 3) := dk_180 0 39 (dk_at dksJ29_rotateRight_0 5 rfl rfl)
theorem dJ29_rotateRight_8 : decode cJ29_rotateRight 8 = .ok (.dup, 1) := dk_89 (dk_at dksJ29_rotateRight_0 8 rfl rfl)
theorem dJ29_rotateRight_9 : decode cJ29_rotateRight 9 = .ok (.astore_n 2, 1) := dk_77 (dk_at dksJ29_rotateRight_0 9 rfl rfl)
theorem dJ29_rotateRight_10 : decode cJ29_rotateRight 10 = .ok (.ifnull 79, 3) := dk_198 0 79 (dk_at dksJ29_rotateRight_0 10 rfl rfl)
theorem dJ29_rotateRight_13 : decode cJ29_rotateRight 13 = .ok (.aload_n 1, 1) := dk_43 (dk_at dksJ29_rotateRight_0 13 rfl rfl)
theorem dJ29_rotateRight_14 : decode cJ29_rotateRight 14 = .ok (.aload_n 2, 1) := dk_44 (dk_at dksJ29_rotateRight_0 14 rfl rfl)
theorem dJ29_rotateRight_15 : decode cJ29_rotateRight 15 = .ok (.getfield 42, 3) := dk_180 0 42 (dk_at dksJ29_rotateRight_0 15 rfl rfl)
theorem dJ29_rotateRight_18 : decode cJ29_rotateRight 18 = .ok (.dup_x1, 1) := dk_90 (dk_at dksJ29_rotateRight_0 18 rfl rfl)
theorem dJ29_rotateRight_19 : decode cJ29_rotateRight 19 = .ok (.putfield 39, 3) := dk_181 0 39 (dk_at dksJ29_rotateRight_0 19 rfl rfl)
theorem dJ29_rotateRight_22 : decode cJ29_rotateRight 22 = .ok (.dup, 1) := dk_89 (dk_at dksJ29_rotateRight_0 22 rfl rfl)
theorem dJ29_rotateRight_23 : decode cJ29_rotateRight 23 = .ok (.astore 4, 2) := dk_58 4 (dk_at dksJ29_rotateRight_1 0 rfl rfl)
theorem dJ29_rotateRight_25 : decode cJ29_rotateRight 25 = .ok (.ifnull 9, 3) := dk_198 0 9 (dk_at dksJ29_rotateRight_1 2 rfl rfl)
theorem dJ29_rotateRight_28 : decode cJ29_rotateRight 28 = .ok (.aload 4, 2) := dk_25 4 (dk_at dksJ29_rotateRight_1 5 rfl rfl)
theorem dJ29_rotateRight_30 : decode cJ29_rotateRight 30 = .ok (.aload_n 1, 1) := dk_43 (dk_at dksJ29_rotateRight_1 7 rfl rfl)
theorem dJ29_rotateRight_31 : decode cJ29_rotateRight 31 = .ok (.putfield 9, 3) := dk_181 0 9 (dk_at dksJ29_rotateRight_1 8 rfl rfl)
theorem dJ29_rotateRight_34 : decode cJ29_rotateRight 34 = .ok (.aload_n 2, 1) := dk_44 (dk_at dksJ29_rotateRight_1 11 rfl rfl)
theorem dJ29_rotateRight_35 : decode cJ29_rotateRight 35 = .ok (.aload_n 1, 1) := dk_43 (dk_at dksJ29_rotateRight_1 12 rfl rfl)
theorem dJ29_rotateRight_36 : decode cJ29_rotateRight 36 = .ok (.getfield 9, 3) := dk_180 0 9 (dk_at dksJ29_rotateRight_1 13 rfl rfl)
theorem dJ29_rotateRight_39 : decode cJ29_rotateRight 39 = .ok (.dup_x1, 1) := dk_90 (dk_at dksJ29_rotateRight_1 16 rfl rfl)
theorem dJ29_rotateRight_40 : decode cJ29_rotateRight 40 = .ok (.putfield 9, 3) := dk_181 0 9 (dk_at dksJ29_rotateRight_1 17 rfl rfl)
theorem dJ29_rotateRight_43 : decode cJ29_rotateRight 43 = .ok (.dup, 1) := dk_89 (dk_at dksJ29_rotateRight_1 20 rfl rfl)
theorem dJ29_rotateRight_44 : decode cJ29_rotateRight 44 = .ok (.astore_n 3, 1) := dk_78 (dk_at dksJ29_rotateRight_1 21 rfl rfl)
theorem dJ29_rotateRight_45 : decode cJ29_rotateRight 45 = .ok (.ifnonnull 13, 3) := dk_199 0 13 (dk_at dksJ29_rotateRight_2 0 rfl rfl)
theorem dJ29_rotateRight_48 : decode cJ29_rotateRight 48 = .ok (.aload_n 2, 1) := dk_44 (dk_at dksJ29_rotateRight_2 3 rfl rfl)
theorem dJ29_rotateRight_49 : decode cJ29_rotateRight 49 = .ok (.dup, 1) := dk_89 (dk_at dksJ29_rotateRight_2 4 rfl rfl)
theorem dJ29_rotateRight_50 : decode cJ29_rotateRight 50 = .ok (.astore_n 0, 1) := dk_75 (dk_at dksJ29_rotateRight_2 5 rfl rfl)
theorem dJ29_rotateRight_51 : decode cJ29_rotateRight 51 = .ok (.iconst 0, 1) := dk_3 (dk_at dksJ29_rotateRight_2 6 rfl rfl)
theorem dJ29_rotateRight_52 : decode cJ29_rotateRight 52 = .ok (.putfield 93, 3) := dk_181 0 93 (dk_at dksJ29_rotateRight_2 7 rfl rfl)
theorem dJ29_rotateRight_55 : decode cJ29_rotateRight 55 = .ok (.goto 24, 3) := dk_167 0 24 (dk_at dksJ29_rotateRight_2 10 rfl rfl)
theorem dJ29_rotateRight_58 : decode cJ29_rotateRight 58 = .ok (.aload_n 3, 1) := dk_45 (dk_at dksJ29_rotateRight_2 13 rfl rfl)
theorem dJ29_rotateRight_59 : decode cJ29_rotateRight 59 = .ok (.getfield 42, 3) := dk_180 0 42 (dk_at dksJ29_rotateRight_2 14 rfl rfl)
theorem dJ29_rotateRight_62 : decode cJ29_rotateRight 62 = .ok (.aload_n 1, 1) := dk_43 (dk_at dksJ29_rotateRight_2 17 rfl rfl)
theorem dJ29_rotateRight_63 : decode cJ29_rotateRight 63 = .ok (.if_acmp .ne 11, 3) := dk_166 0 11 (dk_at dksJ29_rotateRight_2 18 rfl rfl)
theorem dJ29_rotateRight_66 : decode cJ29_rotateRight 66 = .ok (.aload_n 3, 1) := dk_45 (dk_at dksJ29_rotateRight_2 21 rfl rfl)
theorem dJ29_rotateRight_67 : decode cJ29_rotateRight 67 = .ok (.aload_n 2, 1) := dk_44 (dk_at dksJ29_rotateRight_2 22 rfl rfl)
theorem dJ29_rotateRight_68 : decode cJ29_rotateRight 68 = .ok (.putfield 42, 3) := dk_181 0 42 (dk_at dksJ29_rotateRight_3 0 rfl rfl)
theorem dJ29_rotateRight_71 : decode cJ29_rotateRight 71 = .ok (.goto 8, 3) := dk_167 0 8 (dk_at dksJ29_rotateRight_3 3 rfl rfl)
theorem dJ29_rotateRight_74 : decode cJ29_rotateRight 74 = .ok (.aload_n 3, 1) := dk_45 (dk_at dksJ29_rotateRight_3 6 rfl rfl)
theorem dJ29_rotateRight_75 : decode cJ29_rotateRight 75 = .ok (.aload_n 2, 1) := dk_44 (dk_at dksJ29_rotateRight_3 7 rfl rfl)
theorem dJ29_rotateRight_76 : decode cJ29_rotateRight 76 = .ok (.putfield 39, 3) := dk_181 0 39 (dk_at dksJ29_rotateRight_3 8 rfl rfl)
theorem dJ29_rotateRight_79 : decode cJ29_rotateRight 79 = .ok (.aload_n 2, 1) := dk_44 (dk_at dksJ29_rotateRight_3 11 rfl rfl)
theorem dJ29_rotateRight_80 : decode cJ29_rotateRight 80 = .ok (.aload_n 1, 1) := dk_43 (dk_at dksJ29_rotateRight_3 12 rfl rfl)
theorem dJ29_rotateRight_81 : decode cJ29_rotateRight 81 = .ok (.putfield 42, 3) := dk_181 0 42 (dk_at dksJ29_rotateRight_3 13 rfl rfl)
theorem dJ29_rotateRight_84 : decode cJ29_rotateRight 84 = .ok (.aload_n 1, 1) := dk_43 (dk_at dksJ29_rotateRight_3 16 rfl rfl)
theorem dJ29_rotateRight_85 : decode cJ29_rotateRight 85 = .ok (.aload_n 2, 1) := dk_44 (dk_at dksJ29_rotateRight_3 17 rfl rfl)
theorem dJ29_rotateRight_86 : decode cJ29_rotateRight 86 = .ok (.putfield 9, 3) := dk_181 0 9 (dk_at dksJ29_rotateRight_3 18 rfl rfl)
theorem dJ29_rotateRight_89 : decode cJ29_rotateRight 89 = .ok (.aload_n 0, 1) := dk_42 (dk_at dksJ29_rotateRight_3 21 rfl rfl)
theorem dJ29_rotateRight_90 : decode cJ29_rotateRight 90 = .ok (.areturn, 1) := dk_176 (dk_at dksJ29_rotateRight_3 22 rfl rfl)
abbrev cJ29_moveRootToFront : ByteArray := prog_81_method_3_code
def yJ29_moveRootToFront : MethodName := ⟨RJ29, "moveRootToFront", "([Ljava/util/HashMap$Node;Ljava/util/HashMap$TreeNode;)V"⟩
def dkwJ29_moveRootToFront_5 : List UInt8 := [89, 183, 0, 36, 191, 177]
abbrev dktJ29_moveRootToFront_5 : List UInt8 := dkwJ29_moveRootToFront_5 ++ []
def dkwJ29_moveRootToFront_4 : List UInt8 := [181, 0, 22, 43, 1, 181, 0, 19, 178, 0, 26, 154, 0, 18, 43, 184, 0, 30, 154, 0, 11, 187, 0, 34]
abbrev dktJ29_moveRootToFront_4 : List UInt8 := dkwJ29_moveRootToFront_4 ++ dktJ29_moveRootToFront_5
def dkwJ29_moveRootToFront_3 : List UInt8 := [198, 0, 10, 25, 6, 25, 5, 181, 0, 22, 25, 4, 198, 0, 9, 25, 4, 43, 181, 0, 19, 43, 25, 4]
abbrev dktJ29_moveRootToFront_3 : List UInt8 := dkwJ29_moveRootToFront_3 ++ dktJ29_moveRootToFront_4
def dkwJ29_moveRootToFront_2 : List UInt8 := [43, 180, 0, 22, 89, 58, 5, 198, 0, 13, 25, 5, 192, 0, 10, 25, 6, 181, 0, 19, 25, 6]
abbrev dktJ29_moveRootToFront_2 : List UInt8 := dkwJ29_moveRootToFront_2 ++ dktJ29_moveRootToFront_3
def dkwJ29_moveRootToFront_1 : List UInt8 := [42, 29, 50, 192, 0, 10, 58, 4, 43, 25, 4, 165, 0, 67, 42, 29, 43, 83, 43, 180, 0, 19, 58, 6]
abbrev dktJ29_moveRootToFront_1 : List UInt8 := dkwJ29_moveRootToFront_1 ++ dktJ29_moveRootToFront_2
def dkwJ29_moveRootToFront_0 : List UInt8 := [43, 198, 0, 122, 42, 198, 0, 118, 42, 190, 89, 61, 158, 0, 111, 28, 4, 100, 43, 180, 0, 15, 126, 62]
abbrev dktJ29_moveRootToFront_0 : List UInt8 := dkwJ29_moveRootToFront_0 ++ dktJ29_moveRootToFront_1
theorem dksJ29_moveRootToFront_0 : cJ29_moveRootToFront.data.toList.drop 0 = dktJ29_moveRootToFront_0 := by decide +kernel
theorem dksJ29_moveRootToFront_1 : cJ29_moveRootToFront.data.toList.drop 24 = dktJ29_moveRootToFront_1 := dk_seg dksJ29_moveRootToFront_0 24 rfl rfl
theorem dksJ29_moveRootToFront_2 : cJ29_moveRootToFront.data.toList.drop 48 = dktJ29_moveRootToFront_2 := dk_seg dksJ29_moveRootToFront_1 24 rfl rfl
theorem dksJ29_moveRootToFront_3 : cJ29_moveRootToFront.data.toList.drop 70 = dktJ29_moveRootToFront_3 := dk_seg dksJ29_moveRootToFront_2 22 rfl rfl
theorem dksJ29_moveRootToFront_4 : cJ29_moveRootToFront.data.toList.drop 94 = dktJ29_moveRootToFront_4 := dk_seg dksJ29_moveRootToFront_3 24 rfl rfl
theorem dksJ29_moveRootToFront_5 : cJ29_moveRootToFront.data.toList.drop 118 = dktJ29_moveRootToFront_5 := dk_seg dksJ29_moveRootToFront_4 24 rfl rfl
theorem dJ29_moveRootToFront_0 : decode cJ29_moveRootToFront 0 = .ok (.aload_n 1, 1) := dk_43 (dk_at dksJ29_moveRootToFront_0 0 rfl rfl)
theorem dJ29_moveRootToFront_1 : decode cJ29_moveRootToFront 1 = .ok (.ifnull 122, 3) := dk_198 0 122 (dk_at dksJ29_moveRootToFront_0 1 rfl rfl)
theorem dJ29_moveRootToFront_4 : decode cJ29_moveRootToFront 4 = .ok (.aload_n 0, 1) := dk_42 (dk_at dksJ29_moveRootToFront_0 4 rfl rfl)
theorem dJ29_moveRootToFront_5 : decode cJ29_moveRootToFront 5 = .ok (.ifnull 118, 3) := dk_198 0 118 (dk_at dksJ29_moveRootToFront_0 5 rfl rfl)
theorem dJ29_moveRootToFront_8 : decode cJ29_moveRootToFront 8 = .ok (.aload_n 0, 1) := dk_42 (dk_at dksJ29_moveRootToFront_0 8 rfl rfl)
theorem dJ29_moveRootToFront_9 : decode cJ29_moveRootToFront 9 = .ok (.arraylength, 1) := dk_190 (dk_at dksJ29_moveRootToFront_0 9 rfl rfl)
theorem dJ29_moveRootToFront_10 : decode cJ29_moveRootToFront 10 = .ok (.dup, 1) := dk_89 (dk_at dksJ29_moveRootToFront_0 10 rfl rfl)
theorem dJ29_moveRootToFront_11 : decode cJ29_moveRootToFront 11 = .ok (.istore_n 2, 1) := dk_61 (dk_at dksJ29_moveRootToFront_0 11 rfl rfl)
theorem dJ29_moveRootToFront_12 : decode cJ29_moveRootToFront 12 = .ok (.ifCond .le 111, 3) := dk_158 0 111 (dk_at dksJ29_moveRootToFront_0 12 rfl rfl)
theorem dJ29_moveRootToFront_15 : decode cJ29_moveRootToFront 15 = .ok (.iload_n 2, 1) := dk_28 (dk_at dksJ29_moveRootToFront_0 15 rfl rfl)
theorem dJ29_moveRootToFront_16 : decode cJ29_moveRootToFront 16 = .ok (.iconst 1, 1) := dk_4 (dk_at dksJ29_moveRootToFront_0 16 rfl rfl)
theorem dJ29_moveRootToFront_17 : decode cJ29_moveRootToFront 17 = .ok (.isub, 1) := dk_100 (dk_at dksJ29_moveRootToFront_0 17 rfl rfl)
theorem dJ29_moveRootToFront_18 : decode cJ29_moveRootToFront 18 = .ok (.aload_n 1, 1) := dk_43 (dk_at dksJ29_moveRootToFront_0 18 rfl rfl)
theorem dJ29_moveRootToFront_19 : decode cJ29_moveRootToFront 19 = .ok (.getfield 15, 3) := dk_180 0 15 (dk_at dksJ29_moveRootToFront_0 19 rfl rfl)
theorem dJ29_moveRootToFront_22 : decode cJ29_moveRootToFront 22 = .ok (.iand, 1) := dk_126 (dk_at dksJ29_moveRootToFront_0 22 rfl rfl)
theorem dJ29_moveRootToFront_23 : decode cJ29_moveRootToFront 23 = .ok (.istore_n 3, 1) := dk_62 (dk_at dksJ29_moveRootToFront_0 23 rfl rfl)
theorem dJ29_moveRootToFront_24 : decode cJ29_moveRootToFront 24 = .ok (.aload_n 0, 1) := dk_42 (dk_at dksJ29_moveRootToFront_1 0 rfl rfl)
theorem dJ29_moveRootToFront_25 : decode cJ29_moveRootToFront 25 = .ok (.iload_n 3, 1) := dk_29 (dk_at dksJ29_moveRootToFront_1 1 rfl rfl)
theorem dJ29_moveRootToFront_26 : decode cJ29_moveRootToFront 26 = .ok (.aaload, 1) := dk_50 (dk_at dksJ29_moveRootToFront_1 2 rfl rfl)
theorem dJ29_moveRootToFront_27 : decode cJ29_moveRootToFront 27 = .ok (.checkcast 10, 3) := dk_192 0 10 (dk_at dksJ29_moveRootToFront_1 3 rfl rfl)
theorem dJ29_moveRootToFront_30 : decode cJ29_moveRootToFront 30 = .ok (.astore 4, 2) := dk_58 4 (dk_at dksJ29_moveRootToFront_1 6 rfl rfl)
theorem dJ29_moveRootToFront_32 : decode cJ29_moveRootToFront 32 = .ok (.aload_n 1, 1) := dk_43 (dk_at dksJ29_moveRootToFront_1 8 rfl rfl)
theorem dJ29_moveRootToFront_33 : decode cJ29_moveRootToFront 33 = .ok (.aload 4, 2) := dk_25 4 (dk_at dksJ29_moveRootToFront_1 9 rfl rfl)
theorem dJ29_moveRootToFront_35 : decode cJ29_moveRootToFront 35 = .ok (.if_acmp .eq 67, 3) := dk_165 0 67 (dk_at dksJ29_moveRootToFront_1 11 rfl rfl)
theorem dJ29_moveRootToFront_38 : decode cJ29_moveRootToFront 38 = .ok (.aload_n 0, 1) := dk_42 (dk_at dksJ29_moveRootToFront_1 14 rfl rfl)
theorem dJ29_moveRootToFront_39 : decode cJ29_moveRootToFront 39 = .ok (.iload_n 3, 1) := dk_29 (dk_at dksJ29_moveRootToFront_1 15 rfl rfl)
theorem dJ29_moveRootToFront_40 : decode cJ29_moveRootToFront 40 = .ok (.aload_n 1, 1) := dk_43 (dk_at dksJ29_moveRootToFront_1 16 rfl rfl)
theorem dJ29_moveRootToFront_41 : decode cJ29_moveRootToFront 41 = .ok (.aastore, 1) := dk_83 (dk_at dksJ29_moveRootToFront_1 17 rfl rfl)
theorem dJ29_moveRootToFront_42 : decode cJ29_moveRootToFront 42 = .ok (.aload_n 1, 1) := dk_43 (dk_at dksJ29_moveRootToFront_1 18 rfl rfl)
theorem dJ29_moveRootToFront_43 : decode cJ29_moveRootToFront 43 = .ok (.getfield 19, 3) := dk_180 0 19 (dk_at dksJ29_moveRootToFront_1 19 rfl rfl)
theorem dJ29_moveRootToFront_46 : decode cJ29_moveRootToFront 46 = .ok (.astore 6, 2) := dk_58 6 (dk_at dksJ29_moveRootToFront_1 22 rfl rfl)
theorem dJ29_moveRootToFront_48 : decode cJ29_moveRootToFront 48 = .ok (.aload_n 1, 1) := dk_43 (dk_at dksJ29_moveRootToFront_2 0 rfl rfl)
theorem dJ29_moveRootToFront_49 : decode cJ29_moveRootToFront 49 = .ok (.getfield 22, 3) := dk_180 0 22 (dk_at dksJ29_moveRootToFront_2 1 rfl rfl)
theorem dJ29_moveRootToFront_52 : decode cJ29_moveRootToFront 52 = .ok (.dup, 1) := dk_89 (dk_at dksJ29_moveRootToFront_2 4 rfl rfl)
theorem dJ29_moveRootToFront_53 : decode cJ29_moveRootToFront 53 = .ok (.astore 5, 2) := dk_58 5 (dk_at dksJ29_moveRootToFront_2 5 rfl rfl)
theorem dJ29_moveRootToFront_55 : decode cJ29_moveRootToFront 55 = .ok (.ifnull 13, 3) := dk_198 0 13 (dk_at dksJ29_moveRootToFront_2 7 rfl rfl)
theorem dJ29_moveRootToFront_58 : decode cJ29_moveRootToFront 58 = .ok (.aload 5, 2) := dk_25 5 (dk_at dksJ29_moveRootToFront_2 10 rfl rfl)
theorem dJ29_moveRootToFront_60 : decode cJ29_moveRootToFront 60 = .ok (.checkcast 10, 3) := dk_192 0 10 (dk_at dksJ29_moveRootToFront_2 12 rfl rfl)
theorem dJ29_moveRootToFront_63 : decode cJ29_moveRootToFront 63 = .ok (.aload 6, 2) := dk_25 6 (dk_at dksJ29_moveRootToFront_2 15 rfl rfl)
theorem dJ29_moveRootToFront_65 : decode cJ29_moveRootToFront 65 = .ok (.putfield 19, 3) := dk_181 0 19 (dk_at dksJ29_moveRootToFront_2 17 rfl rfl)
theorem dJ29_moveRootToFront_68 : decode cJ29_moveRootToFront 68 = .ok (.aload 6, 2) := dk_25 6 (dk_at dksJ29_moveRootToFront_2 20 rfl rfl)
theorem dJ29_moveRootToFront_70 : decode cJ29_moveRootToFront 70 = .ok (.ifnull 10, 3) := dk_198 0 10 (dk_at dksJ29_moveRootToFront_3 0 rfl rfl)
theorem dJ29_moveRootToFront_73 : decode cJ29_moveRootToFront 73 = .ok (.aload 6, 2) := dk_25 6 (dk_at dksJ29_moveRootToFront_3 3 rfl rfl)
theorem dJ29_moveRootToFront_75 : decode cJ29_moveRootToFront 75 = .ok (.aload 5, 2) := dk_25 5 (dk_at dksJ29_moveRootToFront_3 5 rfl rfl)
theorem dJ29_moveRootToFront_77 : decode cJ29_moveRootToFront 77 = .ok (.putfield 22, 3) := dk_181 0 22 (dk_at dksJ29_moveRootToFront_3 7 rfl rfl)
theorem dJ29_moveRootToFront_80 : decode cJ29_moveRootToFront 80 = .ok (.aload 4, 2) := dk_25 4 (dk_at dksJ29_moveRootToFront_3 10 rfl rfl)
theorem dJ29_moveRootToFront_82 : decode cJ29_moveRootToFront 82 = .ok (.ifnull 9, 3) := dk_198 0 9 (dk_at dksJ29_moveRootToFront_3 12 rfl rfl)
theorem dJ29_moveRootToFront_85 : decode cJ29_moveRootToFront 85 = .ok (.aload 4, 2) := dk_25 4 (dk_at dksJ29_moveRootToFront_3 15 rfl rfl)
theorem dJ29_moveRootToFront_87 : decode cJ29_moveRootToFront 87 = .ok (.aload_n 1, 1) := dk_43 (dk_at dksJ29_moveRootToFront_3 17 rfl rfl)
theorem dJ29_moveRootToFront_88 : decode cJ29_moveRootToFront 88 = .ok (.putfield 19, 3) := dk_181 0 19 (dk_at dksJ29_moveRootToFront_3 18 rfl rfl)
theorem dJ29_moveRootToFront_91 : decode cJ29_moveRootToFront 91 = .ok (.aload_n 1, 1) := dk_43 (dk_at dksJ29_moveRootToFront_3 21 rfl rfl)
theorem dJ29_moveRootToFront_92 : decode cJ29_moveRootToFront 92 = .ok (.aload 4, 2) := dk_25 4 (dk_at dksJ29_moveRootToFront_3 22 rfl rfl)
theorem dJ29_moveRootToFront_94 : decode cJ29_moveRootToFront 94 = .ok (.putfield 22, 3) := dk_181 0 22 (dk_at dksJ29_moveRootToFront_4 0 rfl rfl)
theorem dJ29_moveRootToFront_97 : decode cJ29_moveRootToFront 97 = .ok (.aload_n 1, 1) := dk_43 (dk_at dksJ29_moveRootToFront_4 3 rfl rfl)
theorem dJ29_moveRootToFront_98 : decode cJ29_moveRootToFront 98 = .ok (.aconst_null, 1) := dk_1 (dk_at dksJ29_moveRootToFront_4 4 rfl rfl)
theorem dJ29_moveRootToFront_99 : decode cJ29_moveRootToFront 99 = .ok (.putfield 19, 3) := dk_181 0 19 (dk_at dksJ29_moveRootToFront_4 5 rfl rfl)
theorem dJ29_moveRootToFront_102 : decode cJ29_moveRootToFront 102 = .ok (.getstatic 26, 3) := dk_178 0 26 (dk_at dksJ29_moveRootToFront_4 8 rfl rfl)
theorem dJ29_moveRootToFront_105 : decode cJ29_moveRootToFront 105 = .ok (.ifCond .ne 18, 3) := dk_154 0 18 (dk_at dksJ29_moveRootToFront_4 11 rfl rfl)
theorem dJ29_moveRootToFront_108 : decode cJ29_moveRootToFront 108 = .ok (.aload_n 1, 1) := dk_43 (dk_at dksJ29_moveRootToFront_4 14 rfl rfl)
theorem dJ29_moveRootToFront_109 : decode cJ29_moveRootToFront 109 = .ok (.invokestatic 30, 3) := dk_184 0 30 (dk_at dksJ29_moveRootToFront_4 15 rfl rfl)
theorem dJ29_moveRootToFront_112 : decode cJ29_moveRootToFront 112 = .ok (.ifCond .ne 11, 3) := dk_154 0 11 (dk_at dksJ29_moveRootToFront_4 18 rfl rfl)
theorem dJ29_moveRootToFront_115 : decode cJ29_moveRootToFront 115 = .ok (.new 34, 3) := dk_187 0 34 (dk_at dksJ29_moveRootToFront_4 21 rfl rfl)
theorem dJ29_moveRootToFront_118 : decode cJ29_moveRootToFront 118 = .ok (.dup, 1) := dk_89 (dk_at dksJ29_moveRootToFront_5 0 rfl rfl)
theorem dJ29_moveRootToFront_119 : decode cJ29_moveRootToFront 119 = .ok (.invokespecial 36, 3) := dk_183 0 36 (dk_at dksJ29_moveRootToFront_5 1 rfl rfl)
theorem dJ29_moveRootToFront_122 : decode cJ29_moveRootToFront 122 = .ok (.athrow, 1) := dk_191 (dk_at dksJ29_moveRootToFront_5 4 rfl rfl)
theorem dJ29_moveRootToFront_123 : decode cJ29_moveRootToFront 123 = .ok (.return_, 1) := dk_177 (dk_at dksJ29_moveRootToFront_5 5 rfl rfl)
abbrev cJ29_putTreeVal : ByteArray := prog_81_method_9_code
def yJ29_putTreeVal : MethodName := ⟨RJ29, "putTreeVal", "(Ljava/util/HashMap;[Ljava/util/HashMap$Node;ILjava/lang/Object;Ljava/lang/Object;)Ljava/util/HashMap$TreeNode;"⟩
def dkwJ29_putTreeVal_13 : List UInt8 := [184, 0, 100, 184, 0, 104, 1, 176, 167, 254, 228]
abbrev dktJ29_putTreeVal_13 : List UInt8 := dkwJ29_putTreeVal_13 ++ []
def dkwJ29_putTreeVal_12 : List UInt8 := [181, 0, 9, 25, 14, 198, 0, 13, 25, 14, 192, 0, 10, 25, 15, 181, 0, 19, 44, 25, 8, 25, 15]
abbrev dktJ29_putTreeVal_12 : List UInt8 := dkwJ29_putTreeVal_12 ++ dktJ29_putTreeVal_13
def dkwJ29_putTreeVal_11 : List UInt8 := [25, 15, 181, 0, 42, 25, 13, 25, 15, 181, 0, 22, 25, 15, 25, 15, 25, 13, 90, 181, 0, 19]
abbrev dktJ29_putTreeVal_11 : List UInt8 := dkwJ29_putTreeVal_11 ++ dktJ29_putTreeVal_12
def dkwJ29_putTreeVal_10 : List UInt8 := [25, 14, 182, 0, 115, 58, 15, 21, 10, 157, 0, 13, 25, 13, 25, 15, 181, 0, 39, 167, 0, 10, 25, 13]
abbrev dktJ29_putTreeVal_10 : List UInt8 := dkwJ29_putTreeVal_10 ++ dktJ29_putTreeVal_11
def dkwJ29_putTreeVal_9 : List UInt8 := [25, 9, 180, 0, 42, 89, 58, 9, 199, 0, 93, 25, 13, 180, 0, 22, 58, 14, 43, 29, 25, 4, 25, 5]
abbrev dktJ29_putTreeVal_9 : List UInt8 := dkwJ29_putTreeVal_9 ++ dktJ29_putTreeVal_10
def dkwJ29_putTreeVal_8 : List UInt8 := [25, 12, 184, 0, 96, 54, 10, 25, 9, 58, 13, 21, 10, 157, 0, 11, 25, 9, 180, 0, 39, 167, 0, 8]
abbrev dktJ29_putTreeVal_8 : List UInt8 := dkwJ29_putTreeVal_8 ++ dktJ29_putTreeVal_9
def dkwJ29_putTreeVal_7 : List UInt8 := [198, 0, 22, 25, 14, 29, 25, 4, 25, 6, 182, 0, 63, 89, 58, 13, 198, 0, 6, 25, 13, 176, 25, 4]
abbrev dktJ29_putTreeVal_7 : List UInt8 := dkwJ29_putTreeVal_7 ++ dktJ29_putTreeVal_8
def dkwJ29_putTreeVal_6 : List UInt8 := [29, 25, 4, 25, 6, 182, 0, 63, 89, 58, 13, 199, 0, 30, 25, 9, 180, 0, 42, 89, 58, 14]
abbrev dktJ29_putTreeVal_6 : List UInt8 := dkwJ29_putTreeVal_6 ++ dktJ29_putTreeVal_7
def dkwJ29_putTreeVal_5 : List UInt8 := [154, 0, 77, 21, 7, 154, 0, 63, 4, 54, 7, 25, 9, 180, 0, 39, 89, 58, 14, 198, 0, 19, 25, 14]
abbrev dktJ29_putTreeVal_5 : List UInt8 := dkwJ29_putTreeVal_5 ++ dktJ29_putTreeVal_6
def dkwJ29_putTreeVal_4 : List UInt8 := [25, 4, 184, 0, 55, 89, 58, 6, 198, 0, 18, 25, 6, 25, 4, 25, 12, 184, 0, 59, 89, 54, 10]
abbrev dktJ29_putTreeVal_4 : List UInt8 := dkwJ29_putTreeVal_4 ++ dktJ29_putTreeVal_5
def dkwJ29_putTreeVal_3 : List UInt8 := [25, 4, 198, 0, 16, 25, 4, 25, 12, 182, 0, 49, 153, 0, 6, 25, 9, 176, 25, 6, 199, 0, 14]
abbrev dktJ29_putTreeVal_3 : List UInt8 := dkwJ29_putTreeVal_3 ++ dktJ29_putTreeVal_4
def dkwJ29_putTreeVal_2 : List UInt8 := [29, 162, 0, 9, 4, 54, 10, 167, 0, 139, 25, 9, 180, 0, 45, 89, 58, 12, 25, 4, 165, 0, 18]
abbrev dktJ29_putTreeVal_2 : List UInt8 := dkwJ29_putTreeVal_2 ++ dktJ29_putTreeVal_3
def dkwJ29_putTreeVal_1 : List UInt8 := [25, 8, 58, 9, 25, 9, 180, 0, 15, 89, 54, 11, 29, 164, 0, 9, 2, 54, 10, 167, 0, 151, 21, 11]
abbrev dktJ29_putTreeVal_1 : List UInt8 := dkwJ29_putTreeVal_1 ++ dktJ29_putTreeVal_2
def dkwJ29_putTreeVal_0 : List UInt8 := [1, 58, 6, 3, 54, 7, 42, 180, 0, 9, 198, 0, 10, 42, 182, 0, 67, 167, 0, 4, 42, 58, 8]
abbrev dktJ29_putTreeVal_0 : List UInt8 := dkwJ29_putTreeVal_0 ++ dktJ29_putTreeVal_1
theorem dksJ29_putTreeVal_0 : cJ29_putTreeVal.data.toList.drop 0 = dktJ29_putTreeVal_0 := by decide +kernel
theorem dksJ29_putTreeVal_1 : cJ29_putTreeVal.data.toList.drop 23 = dktJ29_putTreeVal_1 := dk_seg dksJ29_putTreeVal_0 23 rfl rfl
theorem dksJ29_putTreeVal_2 : cJ29_putTreeVal.data.toList.drop 47 = dktJ29_putTreeVal_2 := dk_seg dksJ29_putTreeVal_1 24 rfl rfl
theorem dksJ29_putTreeVal_3 : cJ29_putTreeVal.data.toList.drop 70 = dktJ29_putTreeVal_3 := dk_seg dksJ29_putTreeVal_2 23 rfl rfl
theorem dksJ29_putTreeVal_4 : cJ29_putTreeVal.data.toList.drop 93 = dktJ29_putTreeVal_4 := dk_seg dksJ29_putTreeVal_3 23 rfl rfl
theorem dksJ29_putTreeVal_5 : cJ29_putTreeVal.data.toList.drop 116 = dktJ29_putTreeVal_5 := dk_seg dksJ29_putTreeVal_4 23 rfl rfl
theorem dksJ29_putTreeVal_6 : cJ29_putTreeVal.data.toList.drop 140 = dktJ29_putTreeVal_6 := dk_seg dksJ29_putTreeVal_5 24 rfl rfl
theorem dksJ29_putTreeVal_7 : cJ29_putTreeVal.data.toList.drop 162 = dktJ29_putTreeVal_7 := dk_seg dksJ29_putTreeVal_6 22 rfl rfl
theorem dksJ29_putTreeVal_8 : cJ29_putTreeVal.data.toList.drop 186 = dktJ29_putTreeVal_8 := dk_seg dksJ29_putTreeVal_7 24 rfl rfl
theorem dksJ29_putTreeVal_9 : cJ29_putTreeVal.data.toList.drop 210 = dktJ29_putTreeVal_9 := dk_seg dksJ29_putTreeVal_8 24 rfl rfl
theorem dksJ29_putTreeVal_10 : cJ29_putTreeVal.data.toList.drop 234 = dktJ29_putTreeVal_10 := dk_seg dksJ29_putTreeVal_9 24 rfl rfl
theorem dksJ29_putTreeVal_11 : cJ29_putTreeVal.data.toList.drop 258 = dktJ29_putTreeVal_11 := dk_seg dksJ29_putTreeVal_10 24 rfl rfl
theorem dksJ29_putTreeVal_12 : cJ29_putTreeVal.data.toList.drop 280 = dktJ29_putTreeVal_12 := dk_seg dksJ29_putTreeVal_11 22 rfl rfl
theorem dksJ29_putTreeVal_13 : cJ29_putTreeVal.data.toList.drop 303 = dktJ29_putTreeVal_13 := dk_seg dksJ29_putTreeVal_12 23 rfl rfl
theorem dJ29_putTreeVal_0 : decode cJ29_putTreeVal 0 = .ok (.aconst_null, 1) := dk_1 (dk_at dksJ29_putTreeVal_0 0 rfl rfl)
theorem dJ29_putTreeVal_1 : decode cJ29_putTreeVal 1 = .ok (.astore 6, 2) := dk_58 6 (dk_at dksJ29_putTreeVal_0 1 rfl rfl)
theorem dJ29_putTreeVal_3 : decode cJ29_putTreeVal 3 = .ok (.iconst 0, 1) := dk_3 (dk_at dksJ29_putTreeVal_0 3 rfl rfl)
theorem dJ29_putTreeVal_4 : decode cJ29_putTreeVal 4 = .ok (.istore 7, 2) := dk_54 7 (dk_at dksJ29_putTreeVal_0 4 rfl rfl)
theorem dJ29_putTreeVal_6 : decode cJ29_putTreeVal 6 = .ok (.aload_n 0, 1) := dk_42 (dk_at dksJ29_putTreeVal_0 6 rfl rfl)
theorem dJ29_putTreeVal_7 : decode cJ29_putTreeVal 7 = .ok (.getfield 9, 3) := dk_180 0 9 (dk_at dksJ29_putTreeVal_0 7 rfl rfl)
theorem dJ29_putTreeVal_10 : decode cJ29_putTreeVal 10 = .ok (.ifnull 10, 3) := dk_198 0 10 (dk_at dksJ29_putTreeVal_0 10 rfl rfl)
theorem dJ29_putTreeVal_13 : decode cJ29_putTreeVal 13 = .ok (.aload_n 0, 1) := dk_42 (dk_at dksJ29_putTreeVal_0 13 rfl rfl)
theorem dJ29_putTreeVal_14 : decode cJ29_putTreeVal 14 = .ok (.invokevirtual 67, 3) := dk_182 0 67 (dk_at dksJ29_putTreeVal_0 14 rfl rfl)
theorem dJ29_putTreeVal_17 : decode cJ29_putTreeVal 17 = .ok (.goto 4, 3) := dk_167 0 4 (dk_at dksJ29_putTreeVal_0 17 rfl rfl)
theorem dJ29_putTreeVal_20 : decode cJ29_putTreeVal 20 = .ok (.aload_n 0, 1) := dk_42 (dk_at dksJ29_putTreeVal_0 20 rfl rfl)
theorem dJ29_putTreeVal_21 : decode cJ29_putTreeVal 21 = .ok (.astore 8, 2) := dk_58 8 (dk_at dksJ29_putTreeVal_0 21 rfl rfl)
theorem dJ29_putTreeVal_23 : decode cJ29_putTreeVal 23 = .ok (.aload 8, 2) := dk_25 8 (dk_at dksJ29_putTreeVal_1 0 rfl rfl)
theorem dJ29_putTreeVal_25 : decode cJ29_putTreeVal 25 = .ok (.astore 9, 2) := dk_58 9 (dk_at dksJ29_putTreeVal_1 2 rfl rfl)
theorem dJ29_putTreeVal_27 : decode cJ29_putTreeVal 27 = .ok (.aload 9, 2) := dk_25 9 (dk_at dksJ29_putTreeVal_1 4 rfl rfl)
theorem dJ29_putTreeVal_29 : decode cJ29_putTreeVal 29 = .ok (.getfield 15, 3) := dk_180 0 15 (dk_at dksJ29_putTreeVal_1 6 rfl rfl)
theorem dJ29_putTreeVal_32 : decode cJ29_putTreeVal 32 = .ok (.dup, 1) := dk_89 (dk_at dksJ29_putTreeVal_1 9 rfl rfl)
theorem dJ29_putTreeVal_33 : decode cJ29_putTreeVal 33 = .ok (.istore 11, 2) := dk_54 11 (dk_at dksJ29_putTreeVal_1 10 rfl rfl)
theorem dJ29_putTreeVal_35 : decode cJ29_putTreeVal 35 = .ok (.iload_n 3, 1) := dk_29 (dk_at dksJ29_putTreeVal_1 12 rfl rfl)
theorem dJ29_putTreeVal_36 : decode cJ29_putTreeVal 36 = .ok (.if_icmp .le 9, 3) := dk_164 0 9 (dk_at dksJ29_putTreeVal_1 13 rfl rfl)
theorem dJ29_putTreeVal_39 : decode cJ29_putTreeVal 39 = .ok (.iconst (-1), 1) := dk_2 (dk_at dksJ29_putTreeVal_1 16 rfl rfl)
theorem dJ29_putTreeVal_40 : decode cJ29_putTreeVal 40 = .ok (.istore 10, 2) := dk_54 10 (dk_at dksJ29_putTreeVal_1 17 rfl rfl)
theorem dJ29_putTreeVal_42 : decode cJ29_putTreeVal 42 = .ok (.goto 151, 3) := dk_167 0 151 (dk_at dksJ29_putTreeVal_1 19 rfl rfl)
theorem dJ29_putTreeVal_45 : decode cJ29_putTreeVal 45 = .ok (.iload 11, 2) := dk_21 11 (dk_at dksJ29_putTreeVal_1 22 rfl rfl)
theorem dJ29_putTreeVal_47 : decode cJ29_putTreeVal 47 = .ok (.iload_n 3, 1) := dk_29 (dk_at dksJ29_putTreeVal_2 0 rfl rfl)
theorem dJ29_putTreeVal_48 : decode cJ29_putTreeVal 48 = .ok (.if_icmp .ge 9, 3) := dk_162 0 9 (dk_at dksJ29_putTreeVal_2 1 rfl rfl)
theorem dJ29_putTreeVal_51 : decode cJ29_putTreeVal 51 = .ok (.iconst 1, 1) := dk_4 (dk_at dksJ29_putTreeVal_2 4 rfl rfl)
theorem dJ29_putTreeVal_52 : decode cJ29_putTreeVal 52 = .ok (.istore 10, 2) := dk_54 10 (dk_at dksJ29_putTreeVal_2 5 rfl rfl)
theorem dJ29_putTreeVal_54 : decode cJ29_putTreeVal 54 = .ok (.goto 139, 3) := dk_167 0 139 (dk_at dksJ29_putTreeVal_2 7 rfl rfl)
theorem dJ29_putTreeVal_57 : decode cJ29_putTreeVal 57 = .ok (.aload 9, 2) := dk_25 9 (dk_at dksJ29_putTreeVal_2 10 rfl rfl)
theorem dJ29_putTreeVal_59 : decode cJ29_putTreeVal 59 = .ok (.getfield 45, 3) := dk_180 0 45 (dk_at dksJ29_putTreeVal_2 12 rfl rfl)
theorem dJ29_putTreeVal_62 : decode cJ29_putTreeVal 62 = .ok (.dup, 1) := dk_89 (dk_at dksJ29_putTreeVal_2 15 rfl rfl)
theorem dJ29_putTreeVal_63 : decode cJ29_putTreeVal 63 = .ok (.astore 12, 2) := dk_58 12 (dk_at dksJ29_putTreeVal_2 16 rfl rfl)
theorem dJ29_putTreeVal_65 : decode cJ29_putTreeVal 65 = .ok (.aload 4, 2) := dk_25 4 (dk_at dksJ29_putTreeVal_2 18 rfl rfl)
theorem dJ29_putTreeVal_67 : decode cJ29_putTreeVal 67 = .ok (.if_acmp .eq 18, 3) := dk_165 0 18 (dk_at dksJ29_putTreeVal_2 20 rfl rfl)
theorem dJ29_putTreeVal_70 : decode cJ29_putTreeVal 70 = .ok (.aload 4, 2) := dk_25 4 (dk_at dksJ29_putTreeVal_3 0 rfl rfl)
theorem dJ29_putTreeVal_72 : decode cJ29_putTreeVal 72 = .ok (.ifnull 16, 3) := dk_198 0 16 (dk_at dksJ29_putTreeVal_3 2 rfl rfl)
theorem dJ29_putTreeVal_75 : decode cJ29_putTreeVal 75 = .ok (.aload 4, 2) := dk_25 4 (dk_at dksJ29_putTreeVal_3 5 rfl rfl)
theorem dJ29_putTreeVal_77 : decode cJ29_putTreeVal 77 = .ok (.aload 12, 2) := dk_25 12 (dk_at dksJ29_putTreeVal_3 7 rfl rfl)
theorem dJ29_putTreeVal_79 : decode cJ29_putTreeVal 79 = .ok (.invokevirtual 49, 3) := dk_182 0 49 (dk_at dksJ29_putTreeVal_3 9 rfl rfl)
theorem dJ29_putTreeVal_82 : decode cJ29_putTreeVal 82 = .ok (.ifCond .eq 6, 3) := dk_153 0 6 (dk_at dksJ29_putTreeVal_3 12 rfl rfl)
theorem dJ29_putTreeVal_85 : decode cJ29_putTreeVal 85 = .ok (.aload 9, 2) := dk_25 9 (dk_at dksJ29_putTreeVal_3 15 rfl rfl)
theorem dJ29_putTreeVal_87 : decode cJ29_putTreeVal 87 = .ok (.areturn, 1) := dk_176 (dk_at dksJ29_putTreeVal_3 17 rfl rfl)
theorem dJ29_putTreeVal_88 : decode cJ29_putTreeVal 88 = .ok (.aload 6, 2) := dk_25 6 (dk_at dksJ29_putTreeVal_3 18 rfl rfl)
theorem dJ29_putTreeVal_90 : decode cJ29_putTreeVal 90 = .ok (.ifnonnull 14, 3) := dk_199 0 14 (dk_at dksJ29_putTreeVal_3 20 rfl rfl)
theorem dJ29_putTreeVal_93 : decode cJ29_putTreeVal 93 = .ok (.aload 4, 2) := dk_25 4 (dk_at dksJ29_putTreeVal_4 0 rfl rfl)
theorem dJ29_putTreeVal_95 : decode cJ29_putTreeVal 95 = .ok (.invokestatic 55, 3) := dk_184 0 55 (dk_at dksJ29_putTreeVal_4 2 rfl rfl)
theorem dJ29_putTreeVal_98 : decode cJ29_putTreeVal 98 = .ok (.dup, 1) := dk_89 (dk_at dksJ29_putTreeVal_4 5 rfl rfl)
theorem dJ29_putTreeVal_99 : decode cJ29_putTreeVal 99 = .ok (.astore 6, 2) := dk_58 6 (dk_at dksJ29_putTreeVal_4 6 rfl rfl)
theorem dJ29_putTreeVal_101 : decode cJ29_putTreeVal 101 = .ok (.ifnull 18, 3) := dk_198 0 18 (dk_at dksJ29_putTreeVal_4 8 rfl rfl)
theorem dJ29_putTreeVal_104 : decode cJ29_putTreeVal 104 = .ok (.aload 6, 2) := dk_25 6 (dk_at dksJ29_putTreeVal_4 11 rfl rfl)
theorem dJ29_putTreeVal_106 : decode cJ29_putTreeVal 106 = .ok (.aload 4, 2) := dk_25 4 (dk_at dksJ29_putTreeVal_4 13 rfl rfl)
theorem dJ29_putTreeVal_108 : decode cJ29_putTreeVal 108 = .ok (.aload 12, 2) := dk_25 12 (dk_at dksJ29_putTreeVal_4 15 rfl rfl)
theorem dJ29_putTreeVal_110 : decode cJ29_putTreeVal 110 = .ok (.invokestatic 59, 3) := dk_184 0 59 (dk_at dksJ29_putTreeVal_4 17 rfl rfl)
theorem dJ29_putTreeVal_113 : decode cJ29_putTreeVal 113 = .ok (.dup, 1) := dk_89 (dk_at dksJ29_putTreeVal_4 20 rfl rfl)
theorem dJ29_putTreeVal_114 : decode cJ29_putTreeVal 114 = .ok (.istore 10, 2) := dk_54 10 (dk_at dksJ29_putTreeVal_4 21 rfl rfl)
theorem dJ29_putTreeVal_116 : decode cJ29_putTreeVal 116 = .ok (.ifCond .ne 77, 3) := dk_154 0 77 (dk_at dksJ29_putTreeVal_5 0 rfl rfl)
theorem dJ29_putTreeVal_119 : decode cJ29_putTreeVal 119 = .ok (.iload 7, 2) := dk_21 7 (dk_at dksJ29_putTreeVal_5 3 rfl rfl)
theorem dJ29_putTreeVal_121 : decode cJ29_putTreeVal 121 = .ok (.ifCond .ne 63, 3) := dk_154 0 63 (dk_at dksJ29_putTreeVal_5 5 rfl rfl)
theorem dJ29_putTreeVal_124 : decode cJ29_putTreeVal 124 = .ok (.iconst 1, 1) := dk_4 (dk_at dksJ29_putTreeVal_5 8 rfl rfl)
theorem dJ29_putTreeVal_125 : decode cJ29_putTreeVal 125 = .ok (.istore 7, 2) := dk_54 7 (dk_at dksJ29_putTreeVal_5 9 rfl rfl)
theorem dJ29_putTreeVal_127 : decode cJ29_putTreeVal 127 = .ok (.aload 9, 2) := dk_25 9 (dk_at dksJ29_putTreeVal_5 11 rfl rfl)
theorem dJ29_putTreeVal_129 : decode cJ29_putTreeVal 129 = .ok (.getfield 39, 3) := dk_180 0 39 (dk_at dksJ29_putTreeVal_5 13 rfl rfl)
theorem dJ29_putTreeVal_132 : decode cJ29_putTreeVal 132 = .ok (.dup, 1) := dk_89 (dk_at dksJ29_putTreeVal_5 16 rfl rfl)
theorem dJ29_putTreeVal_133 : decode cJ29_putTreeVal 133 = .ok (.astore 14, 2) := dk_58 14 (dk_at dksJ29_putTreeVal_5 17 rfl rfl)
theorem dJ29_putTreeVal_135 : decode cJ29_putTreeVal 135 = .ok (.ifnull 19, 3) := dk_198 0 19 (dk_at dksJ29_putTreeVal_5 19 rfl rfl)
theorem dJ29_putTreeVal_138 : decode cJ29_putTreeVal 138 = .ok (.aload 14, 2) := dk_25 14 (dk_at dksJ29_putTreeVal_5 22 rfl rfl)
theorem dJ29_putTreeVal_140 : decode cJ29_putTreeVal 140 = .ok (.iload_n 3, 1) := dk_29 (dk_at dksJ29_putTreeVal_6 0 rfl rfl)
theorem dJ29_putTreeVal_141 : decode cJ29_putTreeVal 141 = .ok (.aload 4, 2) := dk_25 4 (dk_at dksJ29_putTreeVal_6 1 rfl rfl)
theorem dJ29_putTreeVal_143 : decode cJ29_putTreeVal 143 = .ok (.aload 6, 2) := dk_25 6 (dk_at dksJ29_putTreeVal_6 3 rfl rfl)
theorem dJ29_putTreeVal_145 : decode cJ29_putTreeVal 145 = .ok (.invokevirtual 63, 3) := dk_182 0 63 (dk_at dksJ29_putTreeVal_6 5 rfl rfl)
theorem dJ29_putTreeVal_148 : decode cJ29_putTreeVal 148 = .ok (.dup, 1) := dk_89 (dk_at dksJ29_putTreeVal_6 8 rfl rfl)
theorem dJ29_putTreeVal_149 : decode cJ29_putTreeVal 149 = .ok (.astore 13, 2) := dk_58 13 (dk_at dksJ29_putTreeVal_6 9 rfl rfl)
theorem dJ29_putTreeVal_151 : decode cJ29_putTreeVal 151 = .ok (.ifnonnull 30, 3) := dk_199 0 30 (dk_at dksJ29_putTreeVal_6 11 rfl rfl)
theorem dJ29_putTreeVal_154 : decode cJ29_putTreeVal 154 = .ok (.aload 9, 2) := dk_25 9 (dk_at dksJ29_putTreeVal_6 14 rfl rfl)
theorem dJ29_putTreeVal_156 : decode cJ29_putTreeVal 156 = .ok (.getfield 42, 3) := dk_180 0 42 (dk_at dksJ29_putTreeVal_6 16 rfl rfl)
theorem dJ29_putTreeVal_159 : decode cJ29_putTreeVal 159 = .ok (.dup, 1) := dk_89 (dk_at dksJ29_putTreeVal_6 19 rfl rfl)
theorem dJ29_putTreeVal_160 : decode cJ29_putTreeVal 160 = .ok (.astore 14, 2) := dk_58 14 (dk_at dksJ29_putTreeVal_6 20 rfl rfl)
theorem dJ29_putTreeVal_162 : decode cJ29_putTreeVal 162 = .ok (.ifnull 22, 3) := dk_198 0 22 (dk_at dksJ29_putTreeVal_7 0 rfl rfl)
theorem dJ29_putTreeVal_165 : decode cJ29_putTreeVal 165 = .ok (.aload 14, 2) := dk_25 14 (dk_at dksJ29_putTreeVal_7 3 rfl rfl)
theorem dJ29_putTreeVal_167 : decode cJ29_putTreeVal 167 = .ok (.iload_n 3, 1) := dk_29 (dk_at dksJ29_putTreeVal_7 5 rfl rfl)
theorem dJ29_putTreeVal_168 : decode cJ29_putTreeVal 168 = .ok (.aload 4, 2) := dk_25 4 (dk_at dksJ29_putTreeVal_7 6 rfl rfl)
theorem dJ29_putTreeVal_170 : decode cJ29_putTreeVal 170 = .ok (.aload 6, 2) := dk_25 6 (dk_at dksJ29_putTreeVal_7 8 rfl rfl)
theorem dJ29_putTreeVal_172 : decode cJ29_putTreeVal 172 = .ok (.invokevirtual 63, 3) := dk_182 0 63 (dk_at dksJ29_putTreeVal_7 10 rfl rfl)
theorem dJ29_putTreeVal_175 : decode cJ29_putTreeVal 175 = .ok (.dup, 1) := dk_89 (dk_at dksJ29_putTreeVal_7 13 rfl rfl)
theorem dJ29_putTreeVal_176 : decode cJ29_putTreeVal 176 = .ok (.astore 13, 2) := dk_58 13 (dk_at dksJ29_putTreeVal_7 14 rfl rfl)
theorem dJ29_putTreeVal_178 : decode cJ29_putTreeVal 178 = .ok (.ifnull 6, 3) := dk_198 0 6 (dk_at dksJ29_putTreeVal_7 16 rfl rfl)
theorem dJ29_putTreeVal_181 : decode cJ29_putTreeVal 181 = .ok (.aload 13, 2) := dk_25 13 (dk_at dksJ29_putTreeVal_7 19 rfl rfl)
theorem dJ29_putTreeVal_183 : decode cJ29_putTreeVal 183 = .ok (.areturn, 1) := dk_176 (dk_at dksJ29_putTreeVal_7 21 rfl rfl)
theorem dJ29_putTreeVal_184 : decode cJ29_putTreeVal 184 = .ok (.aload 4, 2) := dk_25 4 (dk_at dksJ29_putTreeVal_7 22 rfl rfl)
theorem dJ29_putTreeVal_186 : decode cJ29_putTreeVal 186 = .ok (.aload 12, 2) := dk_25 12 (dk_at dksJ29_putTreeVal_8 0 rfl rfl)
theorem dJ29_putTreeVal_188 : decode cJ29_putTreeVal 188 = .ok (.invokestatic 96, 3) := dk_184 0 96 (dk_at dksJ29_putTreeVal_8 2 rfl rfl)
theorem dJ29_putTreeVal_191 : decode cJ29_putTreeVal 191 = .ok (.istore 10, 2) := dk_54 10 (dk_at dksJ29_putTreeVal_8 5 rfl rfl)
theorem dJ29_putTreeVal_193 : decode cJ29_putTreeVal 193 = .ok (.aload 9, 2) := dk_25 9 (dk_at dksJ29_putTreeVal_8 7 rfl rfl)
theorem dJ29_putTreeVal_195 : decode cJ29_putTreeVal 195 = .ok (.astore 13, 2) := dk_58 13 (dk_at dksJ29_putTreeVal_8 9 rfl rfl)
theorem dJ29_putTreeVal_197 : decode cJ29_putTreeVal 197 = .ok (.iload 10, 2) := dk_21 10 (dk_at dksJ29_putTreeVal_8 11 rfl rfl)
theorem dJ29_putTreeVal_199 : decode cJ29_putTreeVal 199 = .ok (.ifCond .gt 11, 3) := dk_157 0 11 (dk_at dksJ29_putTreeVal_8 13 rfl rfl)
theorem dJ29_putTreeVal_202 : decode cJ29_putTreeVal 202 = .ok (.aload 9, 2) := dk_25 9 (dk_at dksJ29_putTreeVal_8 16 rfl rfl)
theorem dJ29_putTreeVal_204 : decode cJ29_putTreeVal 204 = .ok (.getfield 39, 3) := dk_180 0 39 (dk_at dksJ29_putTreeVal_8 18 rfl rfl)
theorem dJ29_putTreeVal_207 : decode cJ29_putTreeVal 207 = .ok (.goto 8, 3) := dk_167 0 8 (dk_at dksJ29_putTreeVal_8 21 rfl rfl)
theorem dJ29_putTreeVal_210 : decode cJ29_putTreeVal 210 = .ok (.aload 9, 2) := dk_25 9 (dk_at dksJ29_putTreeVal_9 0 rfl rfl)
theorem dJ29_putTreeVal_212 : decode cJ29_putTreeVal 212 = .ok (.getfield 42, 3) := dk_180 0 42 (dk_at dksJ29_putTreeVal_9 2 rfl rfl)
theorem dJ29_putTreeVal_215 : decode cJ29_putTreeVal 215 = .ok (.dup, 1) := dk_89 (dk_at dksJ29_putTreeVal_9 5 rfl rfl)
theorem dJ29_putTreeVal_216 : decode cJ29_putTreeVal 216 = .ok (.astore 9, 2) := dk_58 9 (dk_at dksJ29_putTreeVal_9 6 rfl rfl)
theorem dJ29_putTreeVal_218 : decode cJ29_putTreeVal 218 = .ok (.ifnonnull 93, 3) := dk_199 0 93 (dk_at dksJ29_putTreeVal_9 8 rfl rfl)
theorem dJ29_putTreeVal_221 : decode cJ29_putTreeVal 221 = .ok (.aload 13, 2) := dk_25 13 (dk_at dksJ29_putTreeVal_9 11 rfl rfl)
theorem dJ29_putTreeVal_223 : decode cJ29_putTreeVal 223 = .ok (.getfield 22, 3) := dk_180 0 22 (dk_at dksJ29_putTreeVal_9 13 rfl rfl)
theorem dJ29_putTreeVal_226 : decode cJ29_putTreeVal 226 = .ok (.astore 14, 2) := dk_58 14 (dk_at dksJ29_putTreeVal_9 16 rfl rfl)
theorem dJ29_putTreeVal_228 : decode cJ29_putTreeVal 228 = .ok (.aload_n 1, 1) := dk_43 (dk_at dksJ29_putTreeVal_9 18 rfl rfl)
theorem dJ29_putTreeVal_229 : decode cJ29_putTreeVal 229 = .ok (.iload_n 3, 1) := dk_29 (dk_at dksJ29_putTreeVal_9 19 rfl rfl)
theorem dJ29_putTreeVal_230 : decode cJ29_putTreeVal 230 = .ok (.aload 4, 2) := dk_25 4 (dk_at dksJ29_putTreeVal_9 20 rfl rfl)
theorem dJ29_putTreeVal_232 : decode cJ29_putTreeVal 232 = .ok (.aload 5, 2) := dk_25 5 (dk_at dksJ29_putTreeVal_9 22 rfl rfl)
theorem dJ29_putTreeVal_234 : decode cJ29_putTreeVal 234 = .ok (.aload 14, 2) := dk_25 14 (dk_at dksJ29_putTreeVal_10 0 rfl rfl)
theorem dJ29_putTreeVal_236 : decode cJ29_putTreeVal 236 = .ok (.invokevirtual 115, 3) := dk_182 0 115 (dk_at dksJ29_putTreeVal_10 2 rfl rfl)
theorem dJ29_putTreeVal_239 : decode cJ29_putTreeVal 239 = .ok (.astore 15, 2) := dk_58 15 (dk_at dksJ29_putTreeVal_10 5 rfl rfl)
theorem dJ29_putTreeVal_241 : decode cJ29_putTreeVal 241 = .ok (.iload 10, 2) := dk_21 10 (dk_at dksJ29_putTreeVal_10 7 rfl rfl)
theorem dJ29_putTreeVal_243 : decode cJ29_putTreeVal 243 = .ok (.ifCond .gt 13, 3) := dk_157 0 13 (dk_at dksJ29_putTreeVal_10 9 rfl rfl)
theorem dJ29_putTreeVal_246 : decode cJ29_putTreeVal 246 = .ok (.aload 13, 2) := dk_25 13 (dk_at dksJ29_putTreeVal_10 12 rfl rfl)
theorem dJ29_putTreeVal_248 : decode cJ29_putTreeVal 248 = .ok (.aload 15, 2) := dk_25 15 (dk_at dksJ29_putTreeVal_10 14 rfl rfl)
theorem dJ29_putTreeVal_250 : decode cJ29_putTreeVal 250 = .ok (.putfield 39, 3) := dk_181 0 39 (dk_at dksJ29_putTreeVal_10 16 rfl rfl)
theorem dJ29_putTreeVal_253 : decode cJ29_putTreeVal 253 = .ok (.goto 10, 3) := dk_167 0 10 (dk_at dksJ29_putTreeVal_10 19 rfl rfl)
theorem dJ29_putTreeVal_256 : decode cJ29_putTreeVal 256 = .ok (.aload 13, 2) := dk_25 13 (dk_at dksJ29_putTreeVal_10 22 rfl rfl)
theorem dJ29_putTreeVal_258 : decode cJ29_putTreeVal 258 = .ok (.aload 15, 2) := dk_25 15 (dk_at dksJ29_putTreeVal_11 0 rfl rfl)
theorem dJ29_putTreeVal_260 : decode cJ29_putTreeVal 260 = .ok (.putfield 42, 3) := dk_181 0 42 (dk_at dksJ29_putTreeVal_11 2 rfl rfl)
theorem dJ29_putTreeVal_263 : decode cJ29_putTreeVal 263 = .ok (.aload 13, 2) := dk_25 13 (dk_at dksJ29_putTreeVal_11 5 rfl rfl)
theorem dJ29_putTreeVal_265 : decode cJ29_putTreeVal 265 = .ok (.aload 15, 2) := dk_25 15 (dk_at dksJ29_putTreeVal_11 7 rfl rfl)
theorem dJ29_putTreeVal_267 : decode cJ29_putTreeVal 267 = .ok (.putfield 22, 3) := dk_181 0 22 (dk_at dksJ29_putTreeVal_11 9 rfl rfl)
theorem dJ29_putTreeVal_270 : decode cJ29_putTreeVal 270 = .ok (.aload 15, 2) := dk_25 15 (dk_at dksJ29_putTreeVal_11 12 rfl rfl)
theorem dJ29_putTreeVal_272 : decode cJ29_putTreeVal 272 = .ok (.aload 15, 2) := dk_25 15 (dk_at dksJ29_putTreeVal_11 14 rfl rfl)
theorem dJ29_putTreeVal_274 : decode cJ29_putTreeVal 274 = .ok (.aload 13, 2) := dk_25 13 (dk_at dksJ29_putTreeVal_11 16 rfl rfl)
theorem dJ29_putTreeVal_276 : decode cJ29_putTreeVal 276 = .ok (.dup_x1, 1) := dk_90 (dk_at dksJ29_putTreeVal_11 18 rfl rfl)
theorem dJ29_putTreeVal_277 : decode cJ29_putTreeVal 277 = .ok (.putfield 19, 3) := dk_181 0 19 (dk_at dksJ29_putTreeVal_11 19 rfl rfl)
theorem dJ29_putTreeVal_280 : decode cJ29_putTreeVal 280 = .ok (.putfield 9, 3) := dk_181 0 9 (dk_at dksJ29_putTreeVal_12 0 rfl rfl)
theorem dJ29_putTreeVal_283 : decode cJ29_putTreeVal 283 = .ok (.aload 14, 2) := dk_25 14 (dk_at dksJ29_putTreeVal_12 3 rfl rfl)
theorem dJ29_putTreeVal_285 : decode cJ29_putTreeVal 285 = .ok (.ifnull 13, 3) := dk_198 0 13 (dk_at dksJ29_putTreeVal_12 5 rfl rfl)
theorem dJ29_putTreeVal_288 : decode cJ29_putTreeVal 288 = .ok (.aload 14, 2) := dk_25 14 (dk_at dksJ29_putTreeVal_12 8 rfl rfl)
theorem dJ29_putTreeVal_290 : decode cJ29_putTreeVal 290 = .ok (.checkcast 10, 3) := dk_192 0 10 (dk_at dksJ29_putTreeVal_12 10 rfl rfl)
theorem dJ29_putTreeVal_293 : decode cJ29_putTreeVal 293 = .ok (.aload 15, 2) := dk_25 15 (dk_at dksJ29_putTreeVal_12 13 rfl rfl)
theorem dJ29_putTreeVal_295 : decode cJ29_putTreeVal 295 = .ok (.putfield 19, 3) := dk_181 0 19 (dk_at dksJ29_putTreeVal_12 15 rfl rfl)
theorem dJ29_putTreeVal_298 : decode cJ29_putTreeVal 298 = .ok (.aload_n 2, 1) := dk_44 (dk_at dksJ29_putTreeVal_12 18 rfl rfl)
theorem dJ29_putTreeVal_299 : decode cJ29_putTreeVal 299 = .ok (.aload 8, 2) := dk_25 8 (dk_at dksJ29_putTreeVal_12 19 rfl rfl)
theorem dJ29_putTreeVal_301 : decode cJ29_putTreeVal 301 = .ok (.aload 15, 2) := dk_25 15 (dk_at dksJ29_putTreeVal_12 21 rfl rfl)
theorem dJ29_putTreeVal_303 : decode cJ29_putTreeVal 303 = .ok (.invokestatic 100, 3) := dk_184 0 100 (dk_at dksJ29_putTreeVal_13 0 rfl rfl)
theorem dJ29_putTreeVal_306 : decode cJ29_putTreeVal 306 = .ok (.invokestatic 104, 3) := dk_184 0 104 (dk_at dksJ29_putTreeVal_13 3 rfl rfl)
theorem dJ29_putTreeVal_309 : decode cJ29_putTreeVal 309 = .ok (.aconst_null, 1) := dk_1 (dk_at dksJ29_putTreeVal_13 6 rfl rfl)
theorem dJ29_putTreeVal_310 : decode cJ29_putTreeVal 310 = .ok (.areturn, 1) := dk_176 (dk_at dksJ29_putTreeVal_13 7 rfl rfl)
theorem dJ29_putTreeVal_311 : decode cJ29_putTreeVal 311 = .ok (.goto (-284), 3) := dk_167 254 228 (dk_at dksJ29_putTreeVal_13 8 rfl rfl)
abbrev cJ29_init : ByteArray := prog_81_method_1_code
def yJ29_init : MethodName := ⟨RJ29, "<init>", "(ILjava/lang/Object;Ljava/lang/Object;Ljava/util/HashMap$Node;)V"⟩
def dkwJ29_init_0 : List UInt8 := [42, 27, 44, 45, 25, 4, 183, 0, 3, 177]
abbrev dktJ29_init_0 : List UInt8 := dkwJ29_init_0 ++ []
theorem dksJ29_init_0 : cJ29_init.data.toList.drop 0 = dktJ29_init_0 := by decide +kernel
theorem dJ29_init_0 : decode cJ29_init 0 = .ok (.aload_n 0, 1) := dk_42 (dk_at dksJ29_init_0 0 rfl rfl)
theorem dJ29_init_1 : decode cJ29_init 1 = .ok (.iload_n 1, 1) := dk_27 (dk_at dksJ29_init_0 1 rfl rfl)
theorem dJ29_init_2 : decode cJ29_init 2 = .ok (.aload_n 2, 1) := dk_44 (dk_at dksJ29_init_0 2 rfl rfl)
theorem dJ29_init_3 : decode cJ29_init 3 = .ok (.aload_n 3, 1) := dk_45 (dk_at dksJ29_init_0 3 rfl rfl)
theorem dJ29_init_4 : decode cJ29_init 4 = .ok (.aload 4, 2) := dk_25 4 (dk_at dksJ29_init_0 4 rfl rfl)
theorem dJ29_init_6 : decode cJ29_init 6 = .ok (.invokespecial 3, 3) := dk_183 0 3 (dk_at dksJ29_init_0 6 rfl rfl)
theorem dJ29_init_9 : decode cJ29_init 9 = .ok (.return_, 1) := dk_177 (dk_at dksJ29_init_0 9 rfl rfl)
theorem q164 : (Jvm.Cond.initialized "java/util/HashMap$TreeNode") ∈ lw_all := lw_g (lw_at lw_m1 53 rfl) rfl
theorem q851 : (Jvm.Cond.selects "java/util/HashMap$TreeNode" ({ cls := "java/lang/Object", name := "getClass", desc := "()Ljava/lang/Class;" } : Jvm.MethodName) ({ cls := "java/lang/Object", name := "getClass", desc := "()Ljava/lang/Class;" } : Jvm.MethodName)) ∈ lw_all := lw_g (lw_at lw_m4 20 rfl) rfl
theorem q1199 : (Jvm.Cond.instanceMethod ({ cls := "java/util/HashMap$TreeNode", name := "getTreeNode", desc := "(ILjava/lang/Object;)Ljava/util/HashMap$TreeNode;" } : Jvm.MethodName)) ∈ lw_all := lw_g (lw_at lw_m5 128 rfl) rfl
theorem q1200 : (Jvm.Cond.selects "java/util/HashMap$TreeNode" ({ cls := "java/util/HashMap$TreeNode", name := "getTreeNode", desc := "(ILjava/lang/Object;)Ljava/util/HashMap$TreeNode;" } : Jvm.MethodName) ({ cls := "java/util/HashMap$TreeNode", name := "getTreeNode", desc := "(ILjava/lang/Object;)Ljava/util/HashMap$TreeNode;" } : Jvm.MethodName)) ∈ lw_all := lw_g (lw_at lw_m5 129 rfl) rfl
theorem q1201 : (Jvm.Cond.code ({ cls := "java/util/HashMap$TreeNode", name := "getTreeNode", desc := "(ILjava/lang/Object;)Ljava/util/HashMap$TreeNode;" } : Jvm.MethodName) prog_81_method_5_code (3 : Nat) (Option.some (Jvm.ClassFile.FieldType.object "java/util/HashMap$TreeNode"))) ∈ lw_all := lw_g (lw_at lw_m5 130 rfl) rfl
theorem q1202 : (Jvm.Cond.methodLink "java/util/HashMap$TreeNode" (67 : Nat) ({ cls := "java/util/HashMap$TreeNode", name := "root", desc := "()Ljava/util/HashMap$TreeNode;" } : Jvm.MethodName)) ∈ lw_all := lw_g (lw_at lw_m5 131 rfl) rfl
theorem q1203 : (Jvm.Cond.instanceMethod ({ cls := "java/util/HashMap$TreeNode", name := "root", desc := "()Ljava/util/HashMap$TreeNode;" } : Jvm.MethodName)) ∈ lw_all := lw_g (lw_at lw_m5 132 rfl) rfl
theorem q1204 : (Jvm.Cond.selects "java/util/HashMap$TreeNode" ({ cls := "java/util/HashMap$TreeNode", name := "root", desc := "()Ljava/util/HashMap$TreeNode;" } : Jvm.MethodName) ({ cls := "java/util/HashMap$TreeNode", name := "root", desc := "()Ljava/util/HashMap$TreeNode;" } : Jvm.MethodName)) ∈ lw_all := lw_g (lw_at lw_m5 133 rfl) rfl
theorem q1205 : (Jvm.Cond.code ({ cls := "java/util/HashMap$TreeNode", name := "root", desc := "()Ljava/util/HashMap$TreeNode;" } : Jvm.MethodName) prog_81_method_2_code (3 : Nat) (Option.some (Jvm.ClassFile.FieldType.object "java/util/HashMap$TreeNode"))) ∈ lw_all := lw_g (lw_at lw_m5 134 rfl) rfl
theorem q1206 : (Jvm.Cond.methodLink "java/util/HashMap$TreeNode" (63 : Nat) ({ cls := "java/util/HashMap$TreeNode", name := "find", desc := "(ILjava/lang/Object;Ljava/lang/Class;)Ljava/util/HashMap$TreeNode;" } : Jvm.MethodName)) ∈ lw_all := lw_g (lw_at lw_m5 135 rfl) rfl
theorem q1207 : (Jvm.Cond.instanceMethod ({ cls := "java/util/HashMap$TreeNode", name := "find", desc := "(ILjava/lang/Object;Ljava/lang/Class;)Ljava/util/HashMap$TreeNode;" } : Jvm.MethodName)) ∈ lw_all := lw_g (lw_at lw_m5 136 rfl) rfl
theorem q1208 : (Jvm.Cond.selects "java/util/HashMap$TreeNode" ({ cls := "java/util/HashMap$TreeNode", name := "find", desc := "(ILjava/lang/Object;Ljava/lang/Class;)Ljava/util/HashMap$TreeNode;" } : Jvm.MethodName) ({ cls := "java/util/HashMap$TreeNode", name := "find", desc := "(ILjava/lang/Object;Ljava/lang/Class;)Ljava/util/HashMap$TreeNode;" } : Jvm.MethodName)) ∈ lw_all := lw_g (lw_at lw_m5 137 rfl) rfl
theorem q1209 : (Jvm.Cond.code ({ cls := "java/util/HashMap$TreeNode", name := "find", desc := "(ILjava/lang/Object;Ljava/lang/Class;)Ljava/util/HashMap$TreeNode;" } : Jvm.MethodName) prog_81_method_4_code (11 : Nat) (Option.some (Jvm.ClassFile.FieldType.object "java/util/HashMap$TreeNode"))) ∈ lw_all := lw_g (lw_at lw_m5 138 rfl) rfl
theorem q1210 : (Jvm.Cond.methodLink "java/util/HashMap$TreeNode" (49 : Nat) ({ cls := "java/lang/Object", name := "equals", desc := "(Ljava/lang/Object;)Z" } : Jvm.MethodName)) ∈ lw_all := lw_g (lw_at lw_m5 139 rfl) rfl
theorem q1211 : (Jvm.Cond.methodLink "java/util/HashMap$TreeNode" (55 : Nat) ({ cls := "java/util/HashMap", name := "comparableClassFor", desc := "(Ljava/lang/Object;)Ljava/lang/Class;" } : Jvm.MethodName)) ∈ lw_all := lw_g (lw_at lw_m5 140 rfl) rfl
theorem q1217 : (Jvm.Cond.methodLink "java/util/HashMap$TreeNode" (59 : Nat) ({ cls := "java/util/HashMap", name := "compareComparables", desc := "(Ljava/lang/Class;Ljava/lang/Object;Ljava/lang/Object;)I" } : Jvm.MethodName)) ∈ lw_all := lw_g (lw_at lw_m5 146 rfl) rfl
theorem q1823 : (Jvm.Cond.instanceMethod ({ cls := "java/util/HashMap$TreeNode", name := "split", desc := "(Ljava/util/HashMap;[Ljava/util/HashMap$Node;II)V" } : Jvm.MethodName)) ∈ lw_all := lw_g (lw_at lw_m8 32 rfl) rfl
theorem q1824 : (Jvm.Cond.selects "java/util/HashMap$TreeNode" ({ cls := "java/util/HashMap$TreeNode", name := "split", desc := "(Ljava/util/HashMap;[Ljava/util/HashMap$Node;II)V" } : Jvm.MethodName) ({ cls := "java/util/HashMap$TreeNode", name := "split", desc := "(Ljava/util/HashMap;[Ljava/util/HashMap$Node;II)V" } : Jvm.MethodName)) ∈ lw_all := lw_g (lw_at lw_m8 33 rfl) rfl
theorem q1825 : (Jvm.Cond.code ({ cls := "java/util/HashMap$TreeNode", name := "split", desc := "(Ljava/util/HashMap;[Ljava/util/HashMap$Node;II)V" } : Jvm.MethodName) prog_81_method_11_code (14 : Nat) (Option.none : Option Jvm.ClassFile.FieldType)) ∈ lw_all := lw_g (lw_at lw_m8 34 rfl) rfl
theorem q1826 : (Jvm.Cond.classLink "java/util/HashMap$TreeNode" (10 : Nat) "java/util/HashMap$TreeNode") ∈ lw_all := lw_g (lw_at lw_m8 35 rfl) rfl
theorem q1827 : (Jvm.Cond.methodLink "java/util/HashMap$TreeNode" (119 : Nat) ({ cls := "java/util/HashMap$TreeNode", name := "untreeify", desc := "(Ljava/util/HashMap;)Ljava/util/HashMap$Node;" } : Jvm.MethodName)) ∈ lw_all := lw_g (lw_at lw_m8 36 rfl) rfl
theorem q1828 : (Jvm.Cond.instanceMethod ({ cls := "java/util/HashMap$TreeNode", name := "untreeify", desc := "(Ljava/util/HashMap;)Ljava/util/HashMap$Node;" } : Jvm.MethodName)) ∈ lw_all := lw_g (lw_at lw_m8 37 rfl) rfl
theorem q1829 : (Jvm.Cond.selects "java/util/HashMap$TreeNode" ({ cls := "java/util/HashMap$TreeNode", name := "untreeify", desc := "(Ljava/util/HashMap;)Ljava/util/HashMap$Node;" } : Jvm.MethodName) ({ cls := "java/util/HashMap$TreeNode", name := "untreeify", desc := "(Ljava/util/HashMap;)Ljava/util/HashMap$Node;" } : Jvm.MethodName)) ∈ lw_all := lw_g (lw_at lw_m8 38 rfl) rfl
theorem q1830 : (Jvm.Cond.code ({ cls := "java/util/HashMap$TreeNode", name := "untreeify", desc := "(Ljava/util/HashMap;)Ljava/util/HashMap$Node;" } : Jvm.MethodName) prog_81_method_8_code (6 : Nat) (Option.some (Jvm.ClassFile.FieldType.object "java/util/HashMap$Node"))) ∈ lw_all := lw_g (lw_at lw_m8 39 rfl) rfl
theorem q1831 : (Jvm.Cond.methodLink "java/util/HashMap$TreeNode" (108 : Nat) ({ cls := "java/util/HashMap", name := "replacementNode", desc := "(Ljava/util/HashMap$Node;Ljava/util/HashMap$Node;)Ljava/util/HashMap$Node;" } : Jvm.MethodName)) ∈ lw_all := lw_g (lw_at lw_m8 40 rfl) rfl
theorem q1841 : (Jvm.Cond.fieldLink "java/util/HashMap$TreeNode" (15 : Nat) "java/util/HashMap$TreeNode" "hash" "I") ∈ lw_all := lw_g (lw_at lw_m8 50 rfl) rfl
theorem q1842 : (Jvm.Cond.sameField "java/util/HashMap$TreeNode" "java/util/HashMap$Node" "hash" "I") ∈ lw_all := lw_g (lw_at lw_m8 51 rfl) rfl
theorem q1845 : (Jvm.Cond.fieldLink "java/util/HashMap$TreeNode" (45 : Nat) "java/util/HashMap$TreeNode" "key" "Ljava/lang/Object;") ∈ lw_all := lw_g (lw_at lw_m8 54 rfl) rfl
theorem q1846 : (Jvm.Cond.sameField "java/util/HashMap$TreeNode" "java/util/HashMap$Node" "key" "Ljava/lang/Object;") ∈ lw_all := lw_g (lw_at lw_m8 55 rfl) rfl
theorem q1851 : (Jvm.Cond.fieldLink "java/util/HashMap$TreeNode" (22 : Nat) "java/util/HashMap$TreeNode" "next" "Ljava/util/HashMap$Node;") ∈ lw_all := lw_g (lw_at lw_m8 60 rfl) rfl
theorem q1852 : (Jvm.Cond.sameField "java/util/HashMap$TreeNode" "java/util/HashMap$Node" "next" "Ljava/util/HashMap$Node;") ∈ lw_all := lw_g (lw_at lw_m8 61 rfl) rfl
theorem q1853 : (Jvm.Cond.fieldLink "java/util/HashMap$TreeNode" (112 : Nat) "java/util/HashMap$Node" "next" "Ljava/util/HashMap$Node;") ∈ lw_all := lw_g (lw_at lw_m8 62 rfl) rfl
theorem q1865 : (Jvm.Cond.methodLink "java/util/HashMap$TreeNode" (126 : Nat) ({ cls := "java/util/HashMap$TreeNode", name := "treeify", desc := "([Ljava/util/HashMap$Node;)V" } : Jvm.MethodName)) ∈ lw_all := lw_g (lw_at lw_m8 74 rfl) rfl
theorem q1866 : (Jvm.Cond.instanceMethod ({ cls := "java/util/HashMap$TreeNode", name := "treeify", desc := "([Ljava/util/HashMap$Node;)V" } : Jvm.MethodName)) ∈ lw_all := lw_g (lw_at lw_m8 75 rfl) rfl
theorem q1867 : (Jvm.Cond.selects "java/util/HashMap$TreeNode" ({ cls := "java/util/HashMap$TreeNode", name := "treeify", desc := "([Ljava/util/HashMap$Node;)V" } : Jvm.MethodName) ({ cls := "java/util/HashMap$TreeNode", name := "treeify", desc := "([Ljava/util/HashMap$Node;)V" } : Jvm.MethodName)) ∈ lw_all := lw_g (lw_at lw_m8 76 rfl) rfl
theorem q1868 : (Jvm.Cond.code ({ cls := "java/util/HashMap$TreeNode", name := "treeify", desc := "([Ljava/util/HashMap$Node;)V" } : Jvm.MethodName) prog_81_method_7_code (13 : Nat) (Option.none : Option Jvm.ClassFile.FieldType)) ∈ lw_all := lw_g (lw_at lw_m8 77 rfl) rfl
theorem q1869 : (Jvm.Cond.methodLink "java/util/HashMap$TreeNode" (100 : Nat) ({ cls := "java/util/HashMap$TreeNode", name := "balanceInsertion", desc := "(Ljava/util/HashMap$TreeNode;Ljava/util/HashMap$TreeNode;)Ljava/util/HashMap$TreeNode;" } : Jvm.MethodName)) ∈ lw_all := lw_g (lw_at lw_m8 78 rfl) rfl
theorem q1870 : (Jvm.Cond.static ({ cls := "java/util/HashMap$TreeNode", name := "balanceInsertion", desc := "(Ljava/util/HashMap$TreeNode;Ljava/util/HashMap$TreeNode;)Ljava/util/HashMap$TreeNode;" } : Jvm.MethodName)) ∈ lw_all := lw_g (lw_at lw_m8 79 rfl) rfl
theorem q1871 : (Jvm.Cond.code ({ cls := "java/util/HashMap$TreeNode", name := "balanceInsertion", desc := "(Ljava/util/HashMap$TreeNode;Ljava/util/HashMap$TreeNode;)Ljava/util/HashMap$TreeNode;" } : Jvm.MethodName) prog_81_method_14_code (6 : Nat) (Option.some (Jvm.ClassFile.FieldType.object "java/util/HashMap$TreeNode"))) ∈ lw_all := lw_g (lw_at lw_m8 80 rfl) rfl
theorem q1872 : (Jvm.Cond.methodLink "java/util/HashMap$TreeNode" (130 : Nat) ({ cls := "java/util/HashMap$TreeNode", name := "rotateLeft", desc := "(Ljava/util/HashMap$TreeNode;Ljava/util/HashMap$TreeNode;)Ljava/util/HashMap$TreeNode;" } : Jvm.MethodName)) ∈ lw_all := lw_g (lw_at lw_m8 81 rfl) rfl
theorem q1873 : (Jvm.Cond.static ({ cls := "java/util/HashMap$TreeNode", name := "rotateLeft", desc := "(Ljava/util/HashMap$TreeNode;Ljava/util/HashMap$TreeNode;)Ljava/util/HashMap$TreeNode;" } : Jvm.MethodName)) ∈ lw_all := lw_g (lw_at lw_m8 82 rfl) rfl
theorem q1874 : (Jvm.Cond.code ({ cls := "java/util/HashMap$TreeNode", name := "rotateLeft", desc := "(Ljava/util/HashMap$TreeNode;Ljava/util/HashMap$TreeNode;)Ljava/util/HashMap$TreeNode;" } : Jvm.MethodName) prog_81_method_12_code (5 : Nat) (Option.some (Jvm.ClassFile.FieldType.object "java/util/HashMap$TreeNode"))) ∈ lw_all := lw_g (lw_at lw_m8 83 rfl) rfl
theorem q1875 : (Jvm.Cond.methodLink "java/util/HashMap$TreeNode" (133 : Nat) ({ cls := "java/util/HashMap$TreeNode", name := "rotateRight", desc := "(Ljava/util/HashMap$TreeNode;Ljava/util/HashMap$TreeNode;)Ljava/util/HashMap$TreeNode;" } : Jvm.MethodName)) ∈ lw_all := lw_g (lw_at lw_m8 84 rfl) rfl
theorem q1876 : (Jvm.Cond.static ({ cls := "java/util/HashMap$TreeNode", name := "rotateRight", desc := "(Ljava/util/HashMap$TreeNode;Ljava/util/HashMap$TreeNode;)Ljava/util/HashMap$TreeNode;" } : Jvm.MethodName)) ∈ lw_all := lw_g (lw_at lw_m8 85 rfl) rfl
theorem q1877 : (Jvm.Cond.code ({ cls := "java/util/HashMap$TreeNode", name := "rotateRight", desc := "(Ljava/util/HashMap$TreeNode;Ljava/util/HashMap$TreeNode;)Ljava/util/HashMap$TreeNode;" } : Jvm.MethodName) prog_81_method_13_code (5 : Nat) (Option.some (Jvm.ClassFile.FieldType.object "java/util/HashMap$TreeNode"))) ∈ lw_all := lw_g (lw_at lw_m8 86 rfl) rfl
theorem q1878 : (Jvm.Cond.methodLink "java/util/HashMap$TreeNode" (104 : Nat) ({ cls := "java/util/HashMap$TreeNode", name := "moveRootToFront", desc := "([Ljava/util/HashMap$Node;Ljava/util/HashMap$TreeNode;)V" } : Jvm.MethodName)) ∈ lw_all := lw_g (lw_at lw_m8 87 rfl) rfl
theorem q1879 : (Jvm.Cond.static ({ cls := "java/util/HashMap$TreeNode", name := "moveRootToFront", desc := "([Ljava/util/HashMap$Node;Ljava/util/HashMap$TreeNode;)V" } : Jvm.MethodName)) ∈ lw_all := lw_g (lw_at lw_m8 88 rfl) rfl
theorem q1880 : (Jvm.Cond.code ({ cls := "java/util/HashMap$TreeNode", name := "moveRootToFront", desc := "([Ljava/util/HashMap$Node;Ljava/util/HashMap$TreeNode;)V" } : Jvm.MethodName) prog_81_method_3_code (7 : Nat) (Option.none : Option Jvm.ClassFile.FieldType)) ∈ lw_all := lw_g (lw_at lw_m8 89 rfl) rfl
theorem q1881 : (Jvm.Cond.fieldLink "java/util/HashMap$TreeNode" (26 : Nat) "java/util/HashMap$TreeNode" "$assertionsDisabled" "Z") ∈ lw_all := lw_g (lw_at lw_m8 90 rfl) rfl
theorem q1882 : (Jvm.Cond.laysStatic "java/util/HashMap$TreeNode" "$assertionsDisabled" "Z") ∈ lw_tbl := lw_at lw_m8 91 rfl
theorem q1888 : (Jvm.Cond.instanceMethod ({ cls := "java/util/HashMap$TreeNode", name := "putTreeVal", desc := "(Ljava/util/HashMap;[Ljava/util/HashMap$Node;ILjava/lang/Object;Ljava/lang/Object;)Ljava/util/HashMap$TreeNode;" } : Jvm.MethodName)) ∈ lw_all := lw_g (lw_at lw_m8 97 rfl) rfl
theorem q1889 : (Jvm.Cond.selects "java/util/HashMap$TreeNode" ({ cls := "java/util/HashMap$TreeNode", name := "putTreeVal", desc := "(Ljava/util/HashMap;[Ljava/util/HashMap$Node;ILjava/lang/Object;Ljava/lang/Object;)Ljava/util/HashMap$TreeNode;" } : Jvm.MethodName) ({ cls := "java/util/HashMap$TreeNode", name := "putTreeVal", desc := "(Ljava/util/HashMap;[Ljava/util/HashMap$Node;ILjava/lang/Object;Ljava/lang/Object;)Ljava/util/HashMap$TreeNode;" } : Jvm.MethodName)) ∈ lw_all := lw_g (lw_at lw_m8 98 rfl) rfl
theorem q1890 : (Jvm.Cond.code ({ cls := "java/util/HashMap$TreeNode", name := "putTreeVal", desc := "(Ljava/util/HashMap;[Ljava/util/HashMap$Node;ILjava/lang/Object;Ljava/lang/Object;)Ljava/util/HashMap$TreeNode;" } : Jvm.MethodName) prog_81_method_9_code (16 : Nat) (Option.some (Jvm.ClassFile.FieldType.object "java/util/HashMap$TreeNode"))) ∈ lw_all := lw_g (lw_at lw_m8 99 rfl) rfl
theorem q1891 : (Jvm.Cond.methodLink "java/util/HashMap$TreeNode" (115 : Nat) ({ cls := "java/util/HashMap", name := "newTreeNode", desc := "(ILjava/lang/Object;Ljava/lang/Object;Ljava/util/HashMap$Node;)Ljava/util/HashMap$TreeNode;" } : Jvm.MethodName)) ∈ lw_all := lw_g (lw_at lw_m8 100 rfl) rfl
theorem q1895 : (Jvm.Cond.instantiable "java/util/HashMap$TreeNode" (11 : Nat)) ∈ lw_all := lw_g (lw_at lw_m8 104 rfl) rfl
theorem q1897 : (Jvm.Cond.instanceMethod ({ cls := "java/util/HashMap$TreeNode", name := "<init>", desc := "(ILjava/lang/Object;Ljava/lang/Object;Ljava/util/HashMap$Node;)V" } : Jvm.MethodName)) ∈ lw_all := lw_g (lw_at lw_m8 106 rfl) rfl
theorem q1898 : (Jvm.Cond.code ({ cls := "java/util/HashMap$TreeNode", name := "<init>", desc := "(ILjava/lang/Object;Ljava/lang/Object;Ljava/util/HashMap$Node;)V" } : Jvm.MethodName) prog_81_method_1_code (5 : Nat) (Option.none : Option Jvm.ClassFile.FieldType)) ∈ lw_all := lw_g (lw_at lw_m8 107 rfl) rfl
theorem q1899 : (Jvm.Cond.methodLink "java/util/HashMap$TreeNode" (3 : Nat) ({ cls := "java/util/LinkedHashMap$Entry", name := "<init>", desc := "(ILjava/lang/Object;Ljava/lang/Object;Ljava/util/HashMap$Node;)V" } : Jvm.MethodName)) ∈ lw_all := lw_g (lw_at lw_m8 108 rfl) rfl
theorem q1903 : (Jvm.Cond.fieldLink "java/util/HashMap$TreeNode" (9 : Nat) "java/util/HashMap$TreeNode" "parent" "Ljava/util/HashMap$TreeNode;") ∈ lw_all := lw_g (lw_at lw_m8 112 rfl) rfl
theorem q1904 : (Jvm.Cond.fieldLink "java/util/HashMap$TreeNode" (39 : Nat) "java/util/HashMap$TreeNode" "left" "Ljava/util/HashMap$TreeNode;") ∈ lw_all := lw_g (lw_at lw_m8 113 rfl) rfl
theorem q1905 : (Jvm.Cond.fieldLink "java/util/HashMap$TreeNode" (42 : Nat) "java/util/HashMap$TreeNode" "right" "Ljava/util/HashMap$TreeNode;") ∈ lw_all := lw_g (lw_at lw_m8 114 rfl) rfl
theorem q1906 : (Jvm.Cond.fieldLink "java/util/HashMap$TreeNode" (19 : Nat) "java/util/HashMap$TreeNode" "prev" "Ljava/util/HashMap$TreeNode;") ∈ lw_all := lw_g (lw_at lw_m8 115 rfl) rfl
theorem q1908 : (Jvm.Cond.fieldLink "java/util/HashMap$TreeNode" (93 : Nat) "java/util/HashMap$TreeNode" "red" "Z") ∈ lw_all := lw_g (lw_at lw_m8 117 rfl) rfl
theorem q1909 : (Jvm.Cond.lays "java/util/HashMap$TreeNode" "java/util/HashMap$TreeNode" "parent" "Ljava/util/HashMap$TreeNode;") ∈ lw_all := lw_g (lw_at lw_m8 118 rfl) rfl
theorem q1910 : (Jvm.Cond.soleField "java/util/HashMap$TreeNode" "parent") ∈ lw_all := lw_g (lw_at lw_m8 119 rfl) rfl
theorem q1911 : (Jvm.Cond.lays "java/util/HashMap$TreeNode" "java/util/HashMap$TreeNode" "left" "Ljava/util/HashMap$TreeNode;") ∈ lw_all := lw_g (lw_at lw_m8 120 rfl) rfl
theorem q1912 : (Jvm.Cond.soleField "java/util/HashMap$TreeNode" "left") ∈ lw_all := lw_g (lw_at lw_m8 121 rfl) rfl
theorem q1913 : (Jvm.Cond.lays "java/util/HashMap$TreeNode" "java/util/HashMap$TreeNode" "right" "Ljava/util/HashMap$TreeNode;") ∈ lw_all := lw_g (lw_at lw_m8 122 rfl) rfl
theorem q1914 : (Jvm.Cond.soleField "java/util/HashMap$TreeNode" "right") ∈ lw_all := lw_g (lw_at lw_m8 123 rfl) rfl
theorem q1915 : (Jvm.Cond.lays "java/util/HashMap$TreeNode" "java/util/HashMap$TreeNode" "prev" "Ljava/util/HashMap$TreeNode;") ∈ lw_all := lw_g (lw_at lw_m8 124 rfl) rfl
theorem q1916 : (Jvm.Cond.soleField "java/util/HashMap$TreeNode" "prev") ∈ lw_all := lw_g (lw_at lw_m8 125 rfl) rfl
theorem q1917 : (Jvm.Cond.lays "java/util/HashMap$TreeNode" "java/util/HashMap$TreeNode" "red" "Z") ∈ lw_all := lw_g (lw_at lw_m8 126 rfl) rfl
theorem q1918 : (Jvm.Cond.soleField "java/util/HashMap$TreeNode" "red") ∈ lw_all := lw_g (lw_at lw_m8 127 rfl) rfl
theorem q1919 : (Jvm.Cond.lays "java/util/HashMap$TreeNode" "java/util/LinkedHashMap$Entry" "before" "Ljava/util/LinkedHashMap$Entry;") ∈ lw_all := lw_g (lw_at lw_m8 128 rfl) rfl
theorem q1921 : (Jvm.Cond.lays "java/util/HashMap$TreeNode" "java/util/LinkedHashMap$Entry" "after" "Ljava/util/LinkedHashMap$Entry;") ∈ lw_all := lw_g (lw_at lw_m8 130 rfl) rfl
theorem q1923 : (Jvm.Cond.laysFinal "java/util/HashMap$TreeNode" "java/util/HashMap$Node" "hash" "I") ∈ lw_all := lw_g (lw_at lw_m8 132 rfl) rfl
theorem q1924 : (Jvm.Cond.laysFinal "java/util/HashMap$TreeNode" "java/util/HashMap$Node" "key" "Ljava/lang/Object;") ∈ lw_all := lw_g (lw_at lw_m8 133 rfl) rfl
theorem q1925 : (Jvm.Cond.lays "java/util/HashMap$TreeNode" "java/util/HashMap$Node" "value" "Ljava/lang/Object;") ∈ lw_all := lw_g (lw_at lw_m8 134 rfl) rfl
theorem q1926 : (Jvm.Cond.lays "java/util/HashMap$TreeNode" "java/util/HashMap$Node" "next" "Ljava/util/HashMap$Node;") ∈ lw_all := lw_g (lw_at lw_m8 135 rfl) rfl
theorem q1927 : (Jvm.Cond.superclass "java/util/HashMap$TreeNode" "java/util/LinkedHashMap$Entry") ∈ lw_all := lw_g (lw_at lw_m8 136 rfl) rfl
theorem q3363 : (Jvm.Cond.castable "java/util/HashMap$TreeNode" "java/lang/Object") ∈ lw_tbl := lw_at lw_m14 132 rfl
theorem q3378 : (Jvm.Cond.castable "java/util/HashMap$TreeNode" "java/util/HashMap$Node") ∈ lw_tbl := lw_at lw_m14 147 rfl
theorem in_J29 : ∀ w ∈ wsJ290, w ∈ lw_all := lw_in wsJ290 [1919, 1921, 1923, 1924, 1925, 1926, 1909, 1911, 1913, 1915, 1917] (by decide +kernel) (by decide +kernel)

/-! GridTable$Table$Shape -/
set_option maxRecDepth 100000
def RX17 : String := "GridTable$Table$Shape"
def TX17 : u_T := fun k => match k with
  | 0 => ("GridTable$Table$Shape", "corners", "[I", true)
  | _ => ("GridTable$Table$Shape", "this$0", "LGridTable$Table;", true)
def tyX17 : Nat → FieldType := fun k => match k with
  | 0 => .array .int
  | _ => .object "GridTable$Table"
abbrev wsX170 : List Cond := u_ws RX17 TX17 2
theorem nmX17 : ∀ a, a < 2 → ∀ b, b < 2 → a ≠ b → (TX17 a).2.1 ≠ (TX17 b).2.1 := by decide +kernel
theorem tyX17_ok : ∀ k, k < 2 → parseFieldDescriptor (TX17 k).2.2.1 = some (tyX17 k) := by decide +kernel
abbrev cX17_area : ByteArray := prog_29_method_5_code
def yX17_area : MethodName := ⟨RX17, "area", "()I"⟩
def dkwX17_area_2 : List UInt8 := [60, 132, 2, 1, 167, 255, 210, 27, 172]
abbrev dktX17_area_2 : List UInt8 := dkwX17_area_2 ++ []
def dkwX17_area_1 : List UInt8 := [182, 0, 46, 182, 0, 49, 104, 42, 42, 28, 182, 0, 46, 182, 0, 42, 42, 28, 182, 0, 49, 104, 100, 96]
abbrev dktX17_area_1 : List UInt8 := dkwX17_area_1 ++ dktX17_area_2
def dkwX17_area_0 : List UInt8 := [3, 60, 3, 61, 28, 42, 180, 0, 21, 190, 162, 0, 43, 27, 42, 28, 182, 0, 42, 42, 42, 28]
abbrev dktX17_area_0 : List UInt8 := dkwX17_area_0 ++ dktX17_area_1
theorem dksX17_area_0 : cX17_area.data.toList.drop 0 = dktX17_area_0 := by decide +kernel
theorem dksX17_area_1 : cX17_area.data.toList.drop 22 = dktX17_area_1 := dk_seg dksX17_area_0 22 rfl rfl
theorem dksX17_area_2 : cX17_area.data.toList.drop 46 = dktX17_area_2 := dk_seg dksX17_area_1 24 rfl rfl
theorem dX17_area_0 : decode cX17_area 0 = .ok (.iconst 0, 1) := dk_3 (dk_at dksX17_area_0 0 rfl rfl)
theorem dX17_area_1 : decode cX17_area 1 = .ok (.istore_n 1, 1) := dk_60 (dk_at dksX17_area_0 1 rfl rfl)
theorem dX17_area_2 : decode cX17_area 2 = .ok (.iconst 0, 1) := dk_3 (dk_at dksX17_area_0 2 rfl rfl)
theorem dX17_area_3 : decode cX17_area 3 = .ok (.istore_n 2, 1) := dk_61 (dk_at dksX17_area_0 3 rfl rfl)
theorem dX17_area_4 : decode cX17_area 4 = .ok (.iload_n 2, 1) := dk_28 (dk_at dksX17_area_0 4 rfl rfl)
theorem dX17_area_5 : decode cX17_area 5 = .ok (.aload_n 0, 1) := dk_42 (dk_at dksX17_area_0 5 rfl rfl)
theorem dX17_area_6 : decode cX17_area 6 = .ok (.getfield 21, 3) := dk_180 0 21 (dk_at dksX17_area_0 6 rfl rfl)
theorem dX17_area_9 : decode cX17_area 9 = .ok (.arraylength, 1) := dk_190 (dk_at dksX17_area_0 9 rfl rfl)
theorem dX17_area_10 : decode cX17_area 10 = .ok (.if_icmp .ge 43, 3) := dk_162 0 43 (dk_at dksX17_area_0 10 rfl rfl)
theorem dX17_area_13 : decode cX17_area 13 = .ok (.iload_n 1, 1) := dk_27 (dk_at dksX17_area_0 13 rfl rfl)
theorem dX17_area_14 : decode cX17_area 14 = .ok (.aload_n 0, 1) := dk_42 (dk_at dksX17_area_0 14 rfl rfl)
theorem dX17_area_15 : decode cX17_area 15 = .ok (.iload_n 2, 1) := dk_28 (dk_at dksX17_area_0 15 rfl rfl)
theorem dX17_area_16 : decode cX17_area 16 = .ok (.invokevirtual 42, 3) := dk_182 0 42 (dk_at dksX17_area_0 16 rfl rfl)
theorem dX17_area_19 : decode cX17_area 19 = .ok (.aload_n 0, 1) := dk_42 (dk_at dksX17_area_0 19 rfl rfl)
theorem dX17_area_20 : decode cX17_area 20 = .ok (.aload_n 0, 1) := dk_42 (dk_at dksX17_area_0 20 rfl rfl)
theorem dX17_area_21 : decode cX17_area 21 = .ok (.iload_n 2, 1) := dk_28 (dk_at dksX17_area_0 21 rfl rfl)
theorem dX17_area_22 : decode cX17_area 22 = .ok (.invokevirtual 46, 3) := dk_182 0 46 (dk_at dksX17_area_1 0 rfl rfl)
theorem dX17_area_25 : decode cX17_area 25 = .ok (.invokevirtual 49, 3) := dk_182 0 49 (dk_at dksX17_area_1 3 rfl rfl)
theorem dX17_area_28 : decode cX17_area 28 = .ok (.imul, 1) := dk_104 (dk_at dksX17_area_1 6 rfl rfl)
theorem dX17_area_29 : decode cX17_area 29 = .ok (.aload_n 0, 1) := dk_42 (dk_at dksX17_area_1 7 rfl rfl)
theorem dX17_area_30 : decode cX17_area 30 = .ok (.aload_n 0, 1) := dk_42 (dk_at dksX17_area_1 8 rfl rfl)
theorem dX17_area_31 : decode cX17_area 31 = .ok (.iload_n 2, 1) := dk_28 (dk_at dksX17_area_1 9 rfl rfl)
theorem dX17_area_32 : decode cX17_area 32 = .ok (.invokevirtual 46, 3) := dk_182 0 46 (dk_at dksX17_area_1 10 rfl rfl)
theorem dX17_area_35 : decode cX17_area 35 = .ok (.invokevirtual 42, 3) := dk_182 0 42 (dk_at dksX17_area_1 13 rfl rfl)
theorem dX17_area_38 : decode cX17_area 38 = .ok (.aload_n 0, 1) := dk_42 (dk_at dksX17_area_1 16 rfl rfl)
theorem dX17_area_39 : decode cX17_area 39 = .ok (.iload_n 2, 1) := dk_28 (dk_at dksX17_area_1 17 rfl rfl)
theorem dX17_area_40 : decode cX17_area 40 = .ok (.invokevirtual 49, 3) := dk_182 0 49 (dk_at dksX17_area_1 18 rfl rfl)
theorem dX17_area_43 : decode cX17_area 43 = .ok (.imul, 1) := dk_104 (dk_at dksX17_area_1 21 rfl rfl)
theorem dX17_area_44 : decode cX17_area 44 = .ok (.isub, 1) := dk_100 (dk_at dksX17_area_1 22 rfl rfl)
theorem dX17_area_45 : decode cX17_area 45 = .ok (.iadd, 1) := dk_96 (dk_at dksX17_area_1 23 rfl rfl)
theorem dX17_area_46 : decode cX17_area 46 = .ok (.istore_n 1, 1) := dk_60 (dk_at dksX17_area_2 0 rfl rfl)
theorem dX17_area_47 : decode cX17_area 47 = .ok (.iinc 2 1, 3) := dk_132 2 1 (dk_at dksX17_area_2 1 rfl rfl)
theorem dX17_area_50 : decode cX17_area 50 = .ok (.goto (-46), 3) := dk_167 255 210 (dk_at dksX17_area_2 4 rfl rfl)
theorem dX17_area_53 : decode cX17_area 53 = .ok (.iload_n 1, 1) := dk_27 (dk_at dksX17_area_2 7 rfl rfl)
theorem dX17_area_54 : decode cX17_area 54 = .ok (.ireturn, 1) := dk_172 (dk_at dksX17_area_2 8 rfl rfl)
abbrev cX17_x : ByteArray := prog_29_method_3_code
def yX17_x : MethodName := ⟨RX17, "x", "(I)I"⟩
def dkwX17_x_0 : List UInt8 := [42, 180, 0, 3, 180, 0, 34, 42, 180, 0, 21, 27, 46, 46, 172]
abbrev dktX17_x_0 : List UInt8 := dkwX17_x_0 ++ []
theorem dksX17_x_0 : cX17_x.data.toList.drop 0 = dktX17_x_0 := by decide +kernel
theorem dX17_x_0 : decode cX17_x 0 = .ok (.aload_n 0, 1) := dk_42 (dk_at dksX17_x_0 0 rfl rfl)
theorem dX17_x_1 : decode cX17_x 1 = .ok (.getfield 3, 3) := dk_180 0 3 (dk_at dksX17_x_0 1 rfl rfl)
theorem dX17_x_4 : decode cX17_x 4 = .ok (.getfield 34, 3) := dk_180 0 34 (dk_at dksX17_x_0 4 rfl rfl)
theorem dX17_x_7 : decode cX17_x 7 = .ok (.aload_n 0, 1) := dk_42 (dk_at dksX17_x_0 7 rfl rfl)
theorem dX17_x_8 : decode cX17_x 8 = .ok (.getfield 21, 3) := dk_180 0 21 (dk_at dksX17_x_0 8 rfl rfl)
theorem dX17_x_11 : decode cX17_x 11 = .ok (.iload_n 1, 1) := dk_27 (dk_at dksX17_x_0 11 rfl rfl)
theorem dX17_x_12 : decode cX17_x 12 = .ok (.iaload, 1) := dk_46 (dk_at dksX17_x_0 12 rfl rfl)
theorem dX17_x_13 : decode cX17_x 13 = .ok (.iaload, 1) := dk_46 (dk_at dksX17_x_0 13 rfl rfl)
theorem dX17_x_14 : decode cX17_x 14 = .ok (.ireturn, 1) := dk_172 (dk_at dksX17_x_0 14 rfl rfl)
abbrev cX17_next : ByteArray := prog_29_method_2_code
def yX17_next : MethodName := ⟨RX17, "next", "(I)I"⟩
def dkwX17_next_0 : List UInt8 := [27, 4, 96, 42, 180, 0, 21, 190, 160, 0, 7, 3, 167, 0, 6, 27, 4, 96, 172]
abbrev dktX17_next_0 : List UInt8 := dkwX17_next_0 ++ []
theorem dksX17_next_0 : cX17_next.data.toList.drop 0 = dktX17_next_0 := by decide +kernel
theorem dX17_next_0 : decode cX17_next 0 = .ok (.iload_n 1, 1) := dk_27 (dk_at dksX17_next_0 0 rfl rfl)
theorem dX17_next_1 : decode cX17_next 1 = .ok (.iconst 1, 1) := dk_4 (dk_at dksX17_next_0 1 rfl rfl)
theorem dX17_next_2 : decode cX17_next 2 = .ok (.iadd, 1) := dk_96 (dk_at dksX17_next_0 2 rfl rfl)
theorem dX17_next_3 : decode cX17_next 3 = .ok (.aload_n 0, 1) := dk_42 (dk_at dksX17_next_0 3 rfl rfl)
theorem dX17_next_4 : decode cX17_next 4 = .ok (.getfield 21, 3) := dk_180 0 21 (dk_at dksX17_next_0 4 rfl rfl)
theorem dX17_next_7 : decode cX17_next 7 = .ok (.arraylength, 1) := dk_190 (dk_at dksX17_next_0 7 rfl rfl)
theorem dX17_next_8 : decode cX17_next 8 = .ok (.if_icmp .ne 7, 3) := dk_160 0 7 (dk_at dksX17_next_0 8 rfl rfl)
theorem dX17_next_11 : decode cX17_next 11 = .ok (.iconst 0, 1) := dk_3 (dk_at dksX17_next_0 11 rfl rfl)
theorem dX17_next_12 : decode cX17_next 12 = .ok (.goto 6, 3) := dk_167 0 6 (dk_at dksX17_next_0 12 rfl rfl)
theorem dX17_next_15 : decode cX17_next 15 = .ok (.iload_n 1, 1) := dk_27 (dk_at dksX17_next_0 15 rfl rfl)
theorem dX17_next_16 : decode cX17_next 16 = .ok (.iconst 1, 1) := dk_4 (dk_at dksX17_next_0 16 rfl rfl)
theorem dX17_next_17 : decode cX17_next 17 = .ok (.iadd, 1) := dk_96 (dk_at dksX17_next_0 17 rfl rfl)
theorem dX17_next_18 : decode cX17_next 18 = .ok (.ireturn, 1) := dk_172 (dk_at dksX17_next_0 18 rfl rfl)
abbrev cX17_y : ByteArray := prog_29_method_4_code
def yX17_y : MethodName := ⟨RX17, "y", "(I)I"⟩
def dkwX17_y_0 : List UInt8 := [42, 180, 0, 3, 180, 0, 39, 42, 180, 0, 21, 27, 46, 46, 172]
abbrev dktX17_y_0 : List UInt8 := dkwX17_y_0 ++ []
theorem dksX17_y_0 : cX17_y.data.toList.drop 0 = dktX17_y_0 := by decide +kernel
theorem dX17_y_0 : decode cX17_y 0 = .ok (.aload_n 0, 1) := dk_42 (dk_at dksX17_y_0 0 rfl rfl)
theorem dX17_y_1 : decode cX17_y 1 = .ok (.getfield 3, 3) := dk_180 0 3 (dk_at dksX17_y_0 1 rfl rfl)
theorem dX17_y_4 : decode cX17_y 4 = .ok (.getfield 39, 3) := dk_180 0 39 (dk_at dksX17_y_0 4 rfl rfl)
theorem dX17_y_7 : decode cX17_y 7 = .ok (.aload_n 0, 1) := dk_42 (dk_at dksX17_y_0 7 rfl rfl)
theorem dX17_y_8 : decode cX17_y 8 = .ok (.getfield 21, 3) := dk_180 0 21 (dk_at dksX17_y_0 8 rfl rfl)
theorem dX17_y_11 : decode cX17_y 11 = .ok (.iload_n 1, 1) := dk_27 (dk_at dksX17_y_0 11 rfl rfl)
theorem dX17_y_12 : decode cX17_y 12 = .ok (.iaload, 1) := dk_46 (dk_at dksX17_y_0 12 rfl rfl)
theorem dX17_y_13 : decode cX17_y 13 = .ok (.iaload, 1) := dk_46 (dk_at dksX17_y_0 13 rfl rfl)
theorem dX17_y_14 : decode cX17_y 14 = .ok (.ireturn, 1) := dk_172 (dk_at dksX17_y_0 14 rfl rfl)
abbrev cX17_crosses : ByteArray := prog_29_method_8_code
def yX17_crosses : MethodName := ⟨RX17, "crosses", "(LGridTable$Table$Shape;)I"⟩
def dkwX17_crosses_3 : List UInt8 := [167, 255, 213, 132, 3, 1, 167, 255, 184, 28, 172]
abbrev dktX17_crosses_3 : List UInt8 := dkwX17_crosses_3 ++ []
def dkwX17_crosses_2 : List UInt8 := [153, 0, 18, 43, 21, 4, 42, 29, 182, 0, 62, 153, 0, 7, 4, 167, 0, 4, 3, 96, 61, 132, 4, 1]
abbrev dktX17_crosses_2 : List UInt8 := dkwX17_crosses_2 ++ dktX17_crosses_3
def dkwX17_crosses_1 : List UInt8 := [3, 54, 4, 21, 4, 43, 180, 0, 21, 190, 162, 0, 39, 28, 42, 29, 43, 21, 4, 182, 0, 62]
abbrev dktX17_crosses_1 : List UInt8 := dkwX17_crosses_1 ++ dktX17_crosses_2
def dkwX17_crosses_0 : List UInt8 := [3, 61, 3, 62, 29, 42, 180, 0, 21, 190, 162, 0, 69, 42, 43, 166, 0, 9, 29, 4, 96, 167, 0, 4]
abbrev dktX17_crosses_0 : List UInt8 := dkwX17_crosses_0 ++ dktX17_crosses_1
theorem dksX17_crosses_0 : cX17_crosses.data.toList.drop 0 = dktX17_crosses_0 := by decide +kernel
theorem dksX17_crosses_1 : cX17_crosses.data.toList.drop 24 = dktX17_crosses_1 := dk_seg dksX17_crosses_0 24 rfl rfl
theorem dksX17_crosses_2 : cX17_crosses.data.toList.drop 46 = dktX17_crosses_2 := dk_seg dksX17_crosses_1 22 rfl rfl
theorem dksX17_crosses_3 : cX17_crosses.data.toList.drop 70 = dktX17_crosses_3 := dk_seg dksX17_crosses_2 24 rfl rfl
theorem dX17_crosses_0 : decode cX17_crosses 0 = .ok (.iconst 0, 1) := dk_3 (dk_at dksX17_crosses_0 0 rfl rfl)
theorem dX17_crosses_1 : decode cX17_crosses 1 = .ok (.istore_n 2, 1) := dk_61 (dk_at dksX17_crosses_0 1 rfl rfl)
theorem dX17_crosses_2 : decode cX17_crosses 2 = .ok (.iconst 0, 1) := dk_3 (dk_at dksX17_crosses_0 2 rfl rfl)
theorem dX17_crosses_3 : decode cX17_crosses 3 = .ok (.istore_n 3, 1) := dk_62 (dk_at dksX17_crosses_0 3 rfl rfl)
theorem dX17_crosses_4 : decode cX17_crosses 4 = .ok (.iload_n 3, 1) := dk_29 (dk_at dksX17_crosses_0 4 rfl rfl)
theorem dX17_crosses_5 : decode cX17_crosses 5 = .ok (.aload_n 0, 1) := dk_42 (dk_at dksX17_crosses_0 5 rfl rfl)
theorem dX17_crosses_6 : decode cX17_crosses 6 = .ok (.getfield 21, 3) := dk_180 0 21 (dk_at dksX17_crosses_0 6 rfl rfl)
theorem dX17_crosses_9 : decode cX17_crosses 9 = .ok (.arraylength, 1) := dk_190 (dk_at dksX17_crosses_0 9 rfl rfl)
theorem dX17_crosses_10 : decode cX17_crosses 10 = .ok (.if_icmp .ge 69, 3) := dk_162 0 69 (dk_at dksX17_crosses_0 10 rfl rfl)
theorem dX17_crosses_13 : decode cX17_crosses 13 = .ok (.aload_n 0, 1) := dk_42 (dk_at dksX17_crosses_0 13 rfl rfl)
theorem dX17_crosses_14 : decode cX17_crosses 14 = .ok (.aload_n 1, 1) := dk_43 (dk_at dksX17_crosses_0 14 rfl rfl)
theorem dX17_crosses_15 : decode cX17_crosses 15 = .ok (.if_acmp .ne 9, 3) := dk_166 0 9 (dk_at dksX17_crosses_0 15 rfl rfl)
theorem dX17_crosses_18 : decode cX17_crosses 18 = .ok (.iload_n 3, 1) := dk_29 (dk_at dksX17_crosses_0 18 rfl rfl)
theorem dX17_crosses_19 : decode cX17_crosses 19 = .ok (.iconst 1, 1) := dk_4 (dk_at dksX17_crosses_0 19 rfl rfl)
theorem dX17_crosses_20 : decode cX17_crosses 20 = .ok (.iadd, 1) := dk_96 (dk_at dksX17_crosses_0 20 rfl rfl)
theorem dX17_crosses_21 : decode cX17_crosses 21 = .ok (.goto 4, 3) := dk_167 0 4 (dk_at dksX17_crosses_0 21 rfl rfl)
theorem dX17_crosses_24 : decode cX17_crosses 24 = .ok (.iconst 0, 1) := dk_3 (dk_at dksX17_crosses_1 0 rfl rfl)
theorem dX17_crosses_25 : decode cX17_crosses 25 = .ok (.istore 4, 2) := dk_54 4 (dk_at dksX17_crosses_1 1 rfl rfl)
theorem dX17_crosses_27 : decode cX17_crosses 27 = .ok (.iload 4, 2) := dk_21 4 (dk_at dksX17_crosses_1 3 rfl rfl)
theorem dX17_crosses_29 : decode cX17_crosses 29 = .ok (.aload_n 1, 1) := dk_43 (dk_at dksX17_crosses_1 5 rfl rfl)
theorem dX17_crosses_30 : decode cX17_crosses 30 = .ok (.getfield 21, 3) := dk_180 0 21 (dk_at dksX17_crosses_1 6 rfl rfl)
theorem dX17_crosses_33 : decode cX17_crosses 33 = .ok (.arraylength, 1) := dk_190 (dk_at dksX17_crosses_1 9 rfl rfl)
theorem dX17_crosses_34 : decode cX17_crosses 34 = .ok (.if_icmp .ge 39, 3) := dk_162 0 39 (dk_at dksX17_crosses_1 10 rfl rfl)
theorem dX17_crosses_37 : decode cX17_crosses 37 = .ok (.iload_n 2, 1) := dk_28 (dk_at dksX17_crosses_1 13 rfl rfl)
theorem dX17_crosses_38 : decode cX17_crosses 38 = .ok (.aload_n 0, 1) := dk_42 (dk_at dksX17_crosses_1 14 rfl rfl)
theorem dX17_crosses_39 : decode cX17_crosses 39 = .ok (.iload_n 3, 1) := dk_29 (dk_at dksX17_crosses_1 15 rfl rfl)
theorem dX17_crosses_40 : decode cX17_crosses 40 = .ok (.aload_n 1, 1) := dk_43 (dk_at dksX17_crosses_1 16 rfl rfl)
theorem dX17_crosses_41 : decode cX17_crosses 41 = .ok (.iload 4, 2) := dk_21 4 (dk_at dksX17_crosses_1 17 rfl rfl)
theorem dX17_crosses_43 : decode cX17_crosses 43 = .ok (.invokevirtual 62, 3) := dk_182 0 62 (dk_at dksX17_crosses_1 19 rfl rfl)
theorem dX17_crosses_46 : decode cX17_crosses 46 = .ok (.ifCond .eq 18, 3) := dk_153 0 18 (dk_at dksX17_crosses_2 0 rfl rfl)
theorem dX17_crosses_49 : decode cX17_crosses 49 = .ok (.aload_n 1, 1) := dk_43 (dk_at dksX17_crosses_2 3 rfl rfl)
theorem dX17_crosses_50 : decode cX17_crosses 50 = .ok (.iload 4, 2) := dk_21 4 (dk_at dksX17_crosses_2 4 rfl rfl)
theorem dX17_crosses_52 : decode cX17_crosses 52 = .ok (.aload_n 0, 1) := dk_42 (dk_at dksX17_crosses_2 6 rfl rfl)
theorem dX17_crosses_53 : decode cX17_crosses 53 = .ok (.iload_n 3, 1) := dk_29 (dk_at dksX17_crosses_2 7 rfl rfl)
theorem dX17_crosses_54 : decode cX17_crosses 54 = .ok (.invokevirtual 62, 3) := dk_182 0 62 (dk_at dksX17_crosses_2 8 rfl rfl)
theorem dX17_crosses_57 : decode cX17_crosses 57 = .ok (.ifCond .eq 7, 3) := dk_153 0 7 (dk_at dksX17_crosses_2 11 rfl rfl)
theorem dX17_crosses_60 : decode cX17_crosses 60 = .ok (.iconst 1, 1) := dk_4 (dk_at dksX17_crosses_2 14 rfl rfl)
theorem dX17_crosses_61 : decode cX17_crosses 61 = .ok (.goto 4, 3) := dk_167 0 4 (dk_at dksX17_crosses_2 15 rfl rfl)
theorem dX17_crosses_64 : decode cX17_crosses 64 = .ok (.iconst 0, 1) := dk_3 (dk_at dksX17_crosses_2 18 rfl rfl)
theorem dX17_crosses_65 : decode cX17_crosses 65 = .ok (.iadd, 1) := dk_96 (dk_at dksX17_crosses_2 19 rfl rfl)
theorem dX17_crosses_66 : decode cX17_crosses 66 = .ok (.istore_n 2, 1) := dk_61 (dk_at dksX17_crosses_2 20 rfl rfl)
theorem dX17_crosses_67 : decode cX17_crosses 67 = .ok (.iinc 4 1, 3) := dk_132 4 1 (dk_at dksX17_crosses_2 21 rfl rfl)
theorem dX17_crosses_70 : decode cX17_crosses 70 = .ok (.goto (-43), 3) := dk_167 255 213 (dk_at dksX17_crosses_3 0 rfl rfl)
theorem dX17_crosses_73 : decode cX17_crosses 73 = .ok (.iinc 3 1, 3) := dk_132 3 1 (dk_at dksX17_crosses_3 3 rfl rfl)
theorem dX17_crosses_76 : decode cX17_crosses 76 = .ok (.goto (-72), 3) := dk_167 255 184 (dk_at dksX17_crosses_3 6 rfl rfl)
theorem dX17_crosses_79 : decode cX17_crosses 79 = .ok (.iload_n 2, 1) := dk_28 (dk_at dksX17_crosses_3 9 rfl rfl)
theorem dX17_crosses_80 : decode cX17_crosses 80 = .ok (.ireturn, 1) := dk_172 (dk_at dksX17_crosses_3 10 rfl rfl)
abbrev cX17_parts : ByteArray := prog_29_method_7_code
def yX17_parts : MethodName := ⟨RX17, "parts", "(ILGridTable$Table$Shape;I)Z"⟩
def dkwX17_parts_2 : List UInt8 := [21, 4, 21, 5, 104, 156, 0, 7, 4, 167, 0, 4, 3, 172]
abbrev dktX17_parts_2 : List UInt8 := dkwX17_parts_2 ++ []
def dkwX17_parts_1 : List UInt8 := [29, 182, 0, 46, 182, 0, 42, 44, 44, 29, 182, 0, 46, 182, 0, 49, 182, 0, 56, 184, 0, 59, 54, 5]
abbrev dktX17_parts_1 : List UInt8 := dkwX17_parts_1 ++ dktX17_parts_2
def dkwX17_parts_0 : List UInt8 := [42, 27, 44, 29, 182, 0, 42, 44, 29, 182, 0, 49, 182, 0, 56, 184, 0, 59, 54, 4, 42, 27, 44, 44]
abbrev dktX17_parts_0 : List UInt8 := dkwX17_parts_0 ++ dktX17_parts_1
theorem dksX17_parts_0 : cX17_parts.data.toList.drop 0 = dktX17_parts_0 := by decide +kernel
theorem dksX17_parts_1 : cX17_parts.data.toList.drop 24 = dktX17_parts_1 := dk_seg dksX17_parts_0 24 rfl rfl
theorem dksX17_parts_2 : cX17_parts.data.toList.drop 48 = dktX17_parts_2 := dk_seg dksX17_parts_1 24 rfl rfl
theorem dX17_parts_0 : decode cX17_parts 0 = .ok (.aload_n 0, 1) := dk_42 (dk_at dksX17_parts_0 0 rfl rfl)
theorem dX17_parts_1 : decode cX17_parts 1 = .ok (.iload_n 1, 1) := dk_27 (dk_at dksX17_parts_0 1 rfl rfl)
theorem dX17_parts_2 : decode cX17_parts 2 = .ok (.aload_n 2, 1) := dk_44 (dk_at dksX17_parts_0 2 rfl rfl)
theorem dX17_parts_3 : decode cX17_parts 3 = .ok (.iload_n 3, 1) := dk_29 (dk_at dksX17_parts_0 3 rfl rfl)
theorem dX17_parts_4 : decode cX17_parts 4 = .ok (.invokevirtual 42, 3) := dk_182 0 42 (dk_at dksX17_parts_0 4 rfl rfl)
theorem dX17_parts_7 : decode cX17_parts 7 = .ok (.aload_n 2, 1) := dk_44 (dk_at dksX17_parts_0 7 rfl rfl)
theorem dX17_parts_8 : decode cX17_parts 8 = .ok (.iload_n 3, 1) := dk_29 (dk_at dksX17_parts_0 8 rfl rfl)
theorem dX17_parts_9 : decode cX17_parts 9 = .ok (.invokevirtual 49, 3) := dk_182 0 49 (dk_at dksX17_parts_0 9 rfl rfl)
theorem dX17_parts_12 : decode cX17_parts 12 = .ok (.invokevirtual 56, 3) := dk_182 0 56 (dk_at dksX17_parts_0 12 rfl rfl)
theorem dX17_parts_15 : decode cX17_parts 15 = .ok (.invokestatic 59, 3) := dk_184 0 59 (dk_at dksX17_parts_0 15 rfl rfl)
theorem dX17_parts_18 : decode cX17_parts 18 = .ok (.istore 4, 2) := dk_54 4 (dk_at dksX17_parts_0 18 rfl rfl)
theorem dX17_parts_20 : decode cX17_parts 20 = .ok (.aload_n 0, 1) := dk_42 (dk_at dksX17_parts_0 20 rfl rfl)
theorem dX17_parts_21 : decode cX17_parts 21 = .ok (.iload_n 1, 1) := dk_27 (dk_at dksX17_parts_0 21 rfl rfl)
theorem dX17_parts_22 : decode cX17_parts 22 = .ok (.aload_n 2, 1) := dk_44 (dk_at dksX17_parts_0 22 rfl rfl)
theorem dX17_parts_23 : decode cX17_parts 23 = .ok (.aload_n 2, 1) := dk_44 (dk_at dksX17_parts_0 23 rfl rfl)
theorem dX17_parts_24 : decode cX17_parts 24 = .ok (.iload_n 3, 1) := dk_29 (dk_at dksX17_parts_1 0 rfl rfl)
theorem dX17_parts_25 : decode cX17_parts 25 = .ok (.invokevirtual 46, 3) := dk_182 0 46 (dk_at dksX17_parts_1 1 rfl rfl)
theorem dX17_parts_28 : decode cX17_parts 28 = .ok (.invokevirtual 42, 3) := dk_182 0 42 (dk_at dksX17_parts_1 4 rfl rfl)
theorem dX17_parts_31 : decode cX17_parts 31 = .ok (.aload_n 2, 1) := dk_44 (dk_at dksX17_parts_1 7 rfl rfl)
theorem dX17_parts_32 : decode cX17_parts 32 = .ok (.aload_n 2, 1) := dk_44 (dk_at dksX17_parts_1 8 rfl rfl)
theorem dX17_parts_33 : decode cX17_parts 33 = .ok (.iload_n 3, 1) := dk_29 (dk_at dksX17_parts_1 9 rfl rfl)
theorem dX17_parts_34 : decode cX17_parts 34 = .ok (.invokevirtual 46, 3) := dk_182 0 46 (dk_at dksX17_parts_1 10 rfl rfl)
theorem dX17_parts_37 : decode cX17_parts 37 = .ok (.invokevirtual 49, 3) := dk_182 0 49 (dk_at dksX17_parts_1 13 rfl rfl)
theorem dX17_parts_40 : decode cX17_parts 40 = .ok (.invokevirtual 56, 3) := dk_182 0 56 (dk_at dksX17_parts_1 16 rfl rfl)
theorem dX17_parts_43 : decode cX17_parts 43 = .ok (.invokestatic 59, 3) := dk_184 0 59 (dk_at dksX17_parts_1 19 rfl rfl)
theorem dX17_parts_46 : decode cX17_parts 46 = .ok (.istore 5, 2) := dk_54 5 (dk_at dksX17_parts_1 22 rfl rfl)
theorem dX17_parts_48 : decode cX17_parts 48 = .ok (.iload 4, 2) := dk_21 4 (dk_at dksX17_parts_2 0 rfl rfl)
theorem dX17_parts_50 : decode cX17_parts 50 = .ok (.iload 5, 2) := dk_21 5 (dk_at dksX17_parts_2 2 rfl rfl)
theorem dX17_parts_52 : decode cX17_parts 52 = .ok (.imul, 1) := dk_104 (dk_at dksX17_parts_2 4 rfl rfl)
theorem dX17_parts_53 : decode cX17_parts 53 = .ok (.ifCond .ge 7, 3) := dk_156 0 7 (dk_at dksX17_parts_2 5 rfl rfl)
theorem dX17_parts_56 : decode cX17_parts 56 = .ok (.iconst 1, 1) := dk_4 (dk_at dksX17_parts_2 8 rfl rfl)
theorem dX17_parts_57 : decode cX17_parts 57 = .ok (.goto 4, 3) := dk_167 0 4 (dk_at dksX17_parts_2 9 rfl rfl)
theorem dX17_parts_60 : decode cX17_parts 60 = .ok (.iconst 0, 1) := dk_3 (dk_at dksX17_parts_2 12 rfl rfl)
theorem dX17_parts_61 : decode cX17_parts 61 = .ok (.ireturn, 1) := dk_172 (dk_at dksX17_parts_2 13 rfl rfl)
abbrev cX17_side : ByteArray := prog_29_method_6_code
def yX17_side : MethodName := ⟨RX17, "side", "(III)I"⟩
def dkwX17_side_1 : List UInt8 := [182, 0, 46, 182, 0, 49, 28, 29, 184, 0, 52, 172]
abbrev dktX17_side_1 : List UInt8 := dkwX17_side_1 ++ []
def dkwX17_side_0 : List UInt8 := [42, 27, 182, 0, 42, 42, 27, 182, 0, 49, 42, 42, 27, 182, 0, 46, 182, 0, 42, 42, 42, 27]
abbrev dktX17_side_0 : List UInt8 := dkwX17_side_0 ++ dktX17_side_1
theorem dksX17_side_0 : cX17_side.data.toList.drop 0 = dktX17_side_0 := by decide +kernel
theorem dksX17_side_1 : cX17_side.data.toList.drop 22 = dktX17_side_1 := dk_seg dksX17_side_0 22 rfl rfl
theorem dX17_side_0 : decode cX17_side 0 = .ok (.aload_n 0, 1) := dk_42 (dk_at dksX17_side_0 0 rfl rfl)
theorem dX17_side_1 : decode cX17_side 1 = .ok (.iload_n 1, 1) := dk_27 (dk_at dksX17_side_0 1 rfl rfl)
theorem dX17_side_2 : decode cX17_side 2 = .ok (.invokevirtual 42, 3) := dk_182 0 42 (dk_at dksX17_side_0 2 rfl rfl)
theorem dX17_side_5 : decode cX17_side 5 = .ok (.aload_n 0, 1) := dk_42 (dk_at dksX17_side_0 5 rfl rfl)
theorem dX17_side_6 : decode cX17_side 6 = .ok (.iload_n 1, 1) := dk_27 (dk_at dksX17_side_0 6 rfl rfl)
theorem dX17_side_7 : decode cX17_side 7 = .ok (.invokevirtual 49, 3) := dk_182 0 49 (dk_at dksX17_side_0 7 rfl rfl)
theorem dX17_side_10 : decode cX17_side 10 = .ok (.aload_n 0, 1) := dk_42 (dk_at dksX17_side_0 10 rfl rfl)
theorem dX17_side_11 : decode cX17_side 11 = .ok (.aload_n 0, 1) := dk_42 (dk_at dksX17_side_0 11 rfl rfl)
theorem dX17_side_12 : decode cX17_side 12 = .ok (.iload_n 1, 1) := dk_27 (dk_at dksX17_side_0 12 rfl rfl)
theorem dX17_side_13 : decode cX17_side 13 = .ok (.invokevirtual 46, 3) := dk_182 0 46 (dk_at dksX17_side_0 13 rfl rfl)
theorem dX17_side_16 : decode cX17_side 16 = .ok (.invokevirtual 42, 3) := dk_182 0 42 (dk_at dksX17_side_0 16 rfl rfl)
theorem dX17_side_19 : decode cX17_side 19 = .ok (.aload_n 0, 1) := dk_42 (dk_at dksX17_side_0 19 rfl rfl)
theorem dX17_side_20 : decode cX17_side 20 = .ok (.aload_n 0, 1) := dk_42 (dk_at dksX17_side_0 20 rfl rfl)
theorem dX17_side_21 : decode cX17_side 21 = .ok (.iload_n 1, 1) := dk_27 (dk_at dksX17_side_0 21 rfl rfl)
theorem dX17_side_22 : decode cX17_side 22 = .ok (.invokevirtual 46, 3) := dk_182 0 46 (dk_at dksX17_side_1 0 rfl rfl)
theorem dX17_side_25 : decode cX17_side 25 = .ok (.invokevirtual 49, 3) := dk_182 0 49 (dk_at dksX17_side_1 3 rfl rfl)
theorem dX17_side_28 : decode cX17_side 28 = .ok (.iload_n 2, 1) := dk_28 (dk_at dksX17_side_1 6 rfl rfl)
theorem dX17_side_29 : decode cX17_side 29 = .ok (.iload_n 3, 1) := dk_29 (dk_at dksX17_side_1 7 rfl rfl)
theorem dX17_side_30 : decode cX17_side 30 = .ok (.invokestatic 52, 3) := dk_184 0 52 (dk_at dksX17_side_1 8 rfl rfl)
theorem dX17_side_33 : decode cX17_side 33 = .ok (.ireturn, 1) := dk_172 (dk_at dksX17_side_1 11 rfl rfl)
abbrev cX17_init : ByteArray := prog_29_method_1_code
def yX17_init : MethodName := ⟨RX17, "<init>", "(LGridTable$Table;Ljava/util/List;)V"⟩
def dkwX17_init_2 : List UInt8 := [182, 0, 31, 79, 132, 3, 1, 167, 255, 225, 177]
abbrev dktX17_init_2 : List UInt8 := dkwX17_init_2 ++ []
def dkwX17_init_1 : List UInt8 := [42, 180, 0, 21, 190, 162, 0, 28, 42, 180, 0, 21, 29, 44, 29, 185, 0, 25, 2, 0, 192, 0, 29]
abbrev dktX17_init_1 : List UInt8 := dkwX17_init_1 ++ dktX17_init_2
def dkwX17_init_0 : List UInt8 := [42, 43, 181, 0, 3, 42, 183, 0, 9, 42, 44, 185, 0, 15, 1, 0, 188, 10, 181, 0, 21, 3, 62, 29]
abbrev dktX17_init_0 : List UInt8 := dkwX17_init_0 ++ dktX17_init_1
theorem dksX17_init_0 : cX17_init.data.toList.drop 0 = dktX17_init_0 := by decide +kernel
theorem dksX17_init_1 : cX17_init.data.toList.drop 24 = dktX17_init_1 := dk_seg dksX17_init_0 24 rfl rfl
theorem dksX17_init_2 : cX17_init.data.toList.drop 47 = dktX17_init_2 := dk_seg dksX17_init_1 23 rfl rfl
theorem dX17_init_0 : decode cX17_init 0 = .ok (.aload_n 0, 1) := dk_42 (dk_at dksX17_init_0 0 rfl rfl)
theorem dX17_init_1 : decode cX17_init 1 = .ok (.aload_n 1, 1) := dk_43 (dk_at dksX17_init_0 1 rfl rfl)
theorem dX17_init_2 : decode cX17_init 2 = .ok (.putfield 3, 3) := dk_181 0 3 (dk_at dksX17_init_0 2 rfl rfl)
theorem dX17_init_5 : decode cX17_init 5 = .ok (.aload_n 0, 1) := dk_42 (dk_at dksX17_init_0 5 rfl rfl)
theorem dX17_init_6 : decode cX17_init 6 = .ok (.invokespecial 9, 3) := dk_183 0 9 (dk_at dksX17_init_0 6 rfl rfl)
theorem dX17_init_9 : decode cX17_init 9 = .ok (.aload_n 0, 1) := dk_42 (dk_at dksX17_init_0 9 rfl rfl)
theorem dX17_init_10 : decode cX17_init 10 = .ok (.aload_n 2, 1) := dk_44 (dk_at dksX17_init_0 10 rfl rfl)
theorem dX17_init_11 : decode cX17_init 11 = .ok (.invokeinterface 15 1, 5) := by decide +kernel
theorem dX17_init_16 : decode cX17_init 16 = .ok (.newarray .int, 2) := dk_188_10 (dk_at dksX17_init_0 16 rfl rfl)
theorem dX17_init_18 : decode cX17_init 18 = .ok (.putfield 21, 3) := dk_181 0 21 (dk_at dksX17_init_0 18 rfl rfl)
theorem dX17_init_21 : decode cX17_init 21 = .ok (.iconst 0, 1) := dk_3 (dk_at dksX17_init_0 21 rfl rfl)
theorem dX17_init_22 : decode cX17_init 22 = .ok (.istore_n 3, 1) := dk_62 (dk_at dksX17_init_0 22 rfl rfl)
theorem dX17_init_23 : decode cX17_init 23 = .ok (.iload_n 3, 1) := dk_29 (dk_at dksX17_init_0 23 rfl rfl)
theorem dX17_init_24 : decode cX17_init 24 = .ok (.aload_n 0, 1) := dk_42 (dk_at dksX17_init_1 0 rfl rfl)
theorem dX17_init_25 : decode cX17_init 25 = .ok (.getfield 21, 3) := dk_180 0 21 (dk_at dksX17_init_1 1 rfl rfl)
theorem dX17_init_28 : decode cX17_init 28 = .ok (.arraylength, 1) := dk_190 (dk_at dksX17_init_1 4 rfl rfl)
theorem dX17_init_29 : decode cX17_init 29 = .ok (.if_icmp .ge 28, 3) := dk_162 0 28 (dk_at dksX17_init_1 5 rfl rfl)
theorem dX17_init_32 : decode cX17_init 32 = .ok (.aload_n 0, 1) := dk_42 (dk_at dksX17_init_1 8 rfl rfl)
theorem dX17_init_33 : decode cX17_init 33 = .ok (.getfield 21, 3) := dk_180 0 21 (dk_at dksX17_init_1 9 rfl rfl)
theorem dX17_init_36 : decode cX17_init 36 = .ok (.iload_n 3, 1) := dk_29 (dk_at dksX17_init_1 12 rfl rfl)
theorem dX17_init_37 : decode cX17_init 37 = .ok (.aload_n 2, 1) := dk_44 (dk_at dksX17_init_1 13 rfl rfl)
theorem dX17_init_38 : decode cX17_init 38 = .ok (.iload_n 3, 1) := dk_29 (dk_at dksX17_init_1 14 rfl rfl)
theorem dX17_init_39 : decode cX17_init 39 = .ok (.invokeinterface 25 2, 5) := by decide +kernel
theorem dX17_init_44 : decode cX17_init 44 = .ok (.checkcast 29, 3) := dk_192 0 29 (dk_at dksX17_init_1 20 rfl rfl)
theorem dX17_init_47 : decode cX17_init 47 = .ok (.invokevirtual 31, 3) := dk_182 0 31 (dk_at dksX17_init_2 0 rfl rfl)
theorem dX17_init_50 : decode cX17_init 50 = .ok (.iastore, 1) := dk_79 (dk_at dksX17_init_2 3 rfl rfl)
theorem dX17_init_51 : decode cX17_init 51 = .ok (.iinc 3 1, 3) := dk_132 3 1 (dk_at dksX17_init_2 4 rfl rfl)
theorem dX17_init_54 : decode cX17_init 54 = .ok (.goto (-31), 3) := dk_167 255 225 (dk_at dksX17_init_2 7 rfl rfl)
theorem dX17_init_57 : decode cX17_init 57 = .ok (.return_, 1) := dk_177 (dk_at dksX17_init_2 10 rfl rfl)
abbrev cX17_lies : ByteArray := prog_29_method_11_code
def yX17_lies : MethodName := ⟨RX17, "lies", "(II)I"⟩
def dkwX17_lies_2 : List UInt8 := [153, 0, 7, 4, 167, 0, 4, 2, 172]
abbrev dktX17_lies_2 : List UInt8 := dkwX17_lies_2 ++ []
def dkwX17_lies_1 : List UInt8 := [153, 0, 5, 3, 172, 29, 42, 21, 4, 27, 28, 182, 0, 73, 130, 62, 132, 4, 1, 167, 255, 219, 29]
abbrev dktX17_lies_1 : List UInt8 := dkwX17_lies_1 ++ dktX17_lies_2
def dkwX17_lies_0 : List UInt8 := [3, 62, 3, 54, 4, 21, 4, 42, 180, 0, 21, 190, 162, 0, 33, 42, 21, 4, 27, 28, 182, 0, 70]
abbrev dktX17_lies_0 : List UInt8 := dkwX17_lies_0 ++ dktX17_lies_1
theorem dksX17_lies_0 : cX17_lies.data.toList.drop 0 = dktX17_lies_0 := by decide +kernel
theorem dksX17_lies_1 : cX17_lies.data.toList.drop 23 = dktX17_lies_1 := dk_seg dksX17_lies_0 23 rfl rfl
theorem dksX17_lies_2 : cX17_lies.data.toList.drop 46 = dktX17_lies_2 := dk_seg dksX17_lies_1 23 rfl rfl
theorem dX17_lies_0 : decode cX17_lies 0 = .ok (.iconst 0, 1) := dk_3 (dk_at dksX17_lies_0 0 rfl rfl)
theorem dX17_lies_1 : decode cX17_lies 1 = .ok (.istore_n 3, 1) := dk_62 (dk_at dksX17_lies_0 1 rfl rfl)
theorem dX17_lies_2 : decode cX17_lies 2 = .ok (.iconst 0, 1) := dk_3 (dk_at dksX17_lies_0 2 rfl rfl)
theorem dX17_lies_3 : decode cX17_lies 3 = .ok (.istore 4, 2) := dk_54 4 (dk_at dksX17_lies_0 3 rfl rfl)
theorem dX17_lies_5 : decode cX17_lies 5 = .ok (.iload 4, 2) := dk_21 4 (dk_at dksX17_lies_0 5 rfl rfl)
theorem dX17_lies_7 : decode cX17_lies 7 = .ok (.aload_n 0, 1) := dk_42 (dk_at dksX17_lies_0 7 rfl rfl)
theorem dX17_lies_8 : decode cX17_lies 8 = .ok (.getfield 21, 3) := dk_180 0 21 (dk_at dksX17_lies_0 8 rfl rfl)
theorem dX17_lies_11 : decode cX17_lies 11 = .ok (.arraylength, 1) := dk_190 (dk_at dksX17_lies_0 11 rfl rfl)
theorem dX17_lies_12 : decode cX17_lies 12 = .ok (.if_icmp .ge 33, 3) := dk_162 0 33 (dk_at dksX17_lies_0 12 rfl rfl)
theorem dX17_lies_15 : decode cX17_lies 15 = .ok (.aload_n 0, 1) := dk_42 (dk_at dksX17_lies_0 15 rfl rfl)
theorem dX17_lies_16 : decode cX17_lies 16 = .ok (.iload 4, 2) := dk_21 4 (dk_at dksX17_lies_0 16 rfl rfl)
theorem dX17_lies_18 : decode cX17_lies 18 = .ok (.iload_n 1, 1) := dk_27 (dk_at dksX17_lies_0 18 rfl rfl)
theorem dX17_lies_19 : decode cX17_lies 19 = .ok (.iload_n 2, 1) := dk_28 (dk_at dksX17_lies_0 19 rfl rfl)
theorem dX17_lies_20 : decode cX17_lies 20 = .ok (.invokevirtual 70, 3) := dk_182 0 70 (dk_at dksX17_lies_0 20 rfl rfl)
theorem dX17_lies_23 : decode cX17_lies 23 = .ok (.ifCond .eq 5, 3) := dk_153 0 5 (dk_at dksX17_lies_1 0 rfl rfl)
theorem dX17_lies_26 : decode cX17_lies 26 = .ok (.iconst 0, 1) := dk_3 (dk_at dksX17_lies_1 3 rfl rfl)
theorem dX17_lies_27 : decode cX17_lies 27 = .ok (.ireturn, 1) := dk_172 (dk_at dksX17_lies_1 4 rfl rfl)
theorem dX17_lies_28 : decode cX17_lies 28 = .ok (.iload_n 3, 1) := dk_29 (dk_at dksX17_lies_1 5 rfl rfl)
theorem dX17_lies_29 : decode cX17_lies 29 = .ok (.aload_n 0, 1) := dk_42 (dk_at dksX17_lies_1 6 rfl rfl)
theorem dX17_lies_30 : decode cX17_lies 30 = .ok (.iload 4, 2) := dk_21 4 (dk_at dksX17_lies_1 7 rfl rfl)
theorem dX17_lies_32 : decode cX17_lies 32 = .ok (.iload_n 1, 1) := dk_27 (dk_at dksX17_lies_1 9 rfl rfl)
theorem dX17_lies_33 : decode cX17_lies 33 = .ok (.iload_n 2, 1) := dk_28 (dk_at dksX17_lies_1 10 rfl rfl)
theorem dX17_lies_34 : decode cX17_lies 34 = .ok (.invokevirtual 73, 3) := dk_182 0 73 (dk_at dksX17_lies_1 11 rfl rfl)
theorem dX17_lies_37 : decode cX17_lies 37 = .ok (.ixor, 1) := dk_130 (dk_at dksX17_lies_1 14 rfl rfl)
theorem dX17_lies_38 : decode cX17_lies 38 = .ok (.istore_n 3, 1) := dk_62 (dk_at dksX17_lies_1 15 rfl rfl)
theorem dX17_lies_39 : decode cX17_lies 39 = .ok (.iinc 4 1, 3) := dk_132 4 1 (dk_at dksX17_lies_1 16 rfl rfl)
theorem dX17_lies_42 : decode cX17_lies 42 = .ok (.goto (-37), 3) := dk_167 255 219 (dk_at dksX17_lies_1 19 rfl rfl)
theorem dX17_lies_45 : decode cX17_lies 45 = .ok (.iload_n 3, 1) := dk_29 (dk_at dksX17_lies_1 22 rfl rfl)
theorem dX17_lies_46 : decode cX17_lies 46 = .ok (.ifCond .eq 7, 3) := dk_153 0 7 (dk_at dksX17_lies_2 0 rfl rfl)
theorem dX17_lies_49 : decode cX17_lies 49 = .ok (.iconst 1, 1) := dk_4 (dk_at dksX17_lies_2 3 rfl rfl)
theorem dX17_lies_50 : decode cX17_lies 50 = .ok (.goto 4, 3) := dk_167 0 4 (dk_at dksX17_lies_2 4 rfl rfl)
theorem dX17_lies_53 : decode cX17_lies 53 = .ok (.iconst (-1), 1) := dk_2 (dk_at dksX17_lies_2 7 rfl rfl)
theorem dX17_lies_54 : decode cX17_lies 54 = .ok (.ireturn, 1) := dk_172 (dk_at dksX17_lies_2 8 rfl rfl)
abbrev cX17_isOn : ByteArray := prog_29_method_9_code
def yX17_isOn : MethodName := ⟨RX17, "isOn", "(III)Z"⟩
def dkwX17_isOn_2 : List UInt8 := [184, 0, 66, 153, 0, 7, 4, 167, 0, 4, 3, 172]
abbrev dktX17_isOn_2 : List UInt8 := dkwX17_isOn_2 ++ []
def dkwX17_isOn_1 : List UInt8 := [28, 184, 0, 66, 153, 0, 28, 42, 27, 182, 0, 49, 42, 42, 27, 182, 0, 46, 182, 0, 49, 29]
abbrev dktX17_isOn_1 : List UInt8 := dkwX17_isOn_1 ++ dktX17_isOn_2
def dkwX17_isOn_0 : List UInt8 := [42, 27, 28, 29, 182, 0, 56, 154, 0, 49, 42, 27, 182, 0, 42, 42, 42, 27, 182, 0, 46, 182, 0, 42]
abbrev dktX17_isOn_0 : List UInt8 := dkwX17_isOn_0 ++ dktX17_isOn_1
theorem dksX17_isOn_0 : cX17_isOn.data.toList.drop 0 = dktX17_isOn_0 := by decide +kernel
theorem dksX17_isOn_1 : cX17_isOn.data.toList.drop 24 = dktX17_isOn_1 := dk_seg dksX17_isOn_0 24 rfl rfl
theorem dksX17_isOn_2 : cX17_isOn.data.toList.drop 46 = dktX17_isOn_2 := dk_seg dksX17_isOn_1 22 rfl rfl
theorem dX17_isOn_0 : decode cX17_isOn 0 = .ok (.aload_n 0, 1) := dk_42 (dk_at dksX17_isOn_0 0 rfl rfl)
theorem dX17_isOn_1 : decode cX17_isOn 1 = .ok (.iload_n 1, 1) := dk_27 (dk_at dksX17_isOn_0 1 rfl rfl)
theorem dX17_isOn_2 : decode cX17_isOn 2 = .ok (.iload_n 2, 1) := dk_28 (dk_at dksX17_isOn_0 2 rfl rfl)
theorem dX17_isOn_3 : decode cX17_isOn 3 = .ok (.iload_n 3, 1) := dk_29 (dk_at dksX17_isOn_0 3 rfl rfl)
theorem dX17_isOn_4 : decode cX17_isOn 4 = .ok (.invokevirtual 56, 3) := dk_182 0 56 (dk_at dksX17_isOn_0 4 rfl rfl)
theorem dX17_isOn_7 : decode cX17_isOn 7 = .ok (.ifCond .ne 49, 3) := dk_154 0 49 (dk_at dksX17_isOn_0 7 rfl rfl)
theorem dX17_isOn_10 : decode cX17_isOn 10 = .ok (.aload_n 0, 1) := dk_42 (dk_at dksX17_isOn_0 10 rfl rfl)
theorem dX17_isOn_11 : decode cX17_isOn 11 = .ok (.iload_n 1, 1) := dk_27 (dk_at dksX17_isOn_0 11 rfl rfl)
theorem dX17_isOn_12 : decode cX17_isOn 12 = .ok (.invokevirtual 42, 3) := dk_182 0 42 (dk_at dksX17_isOn_0 12 rfl rfl)
theorem dX17_isOn_15 : decode cX17_isOn 15 = .ok (.aload_n 0, 1) := dk_42 (dk_at dksX17_isOn_0 15 rfl rfl)
theorem dX17_isOn_16 : decode cX17_isOn 16 = .ok (.aload_n 0, 1) := dk_42 (dk_at dksX17_isOn_0 16 rfl rfl)
theorem dX17_isOn_17 : decode cX17_isOn 17 = .ok (.iload_n 1, 1) := dk_27 (dk_at dksX17_isOn_0 17 rfl rfl)
theorem dX17_isOn_18 : decode cX17_isOn 18 = .ok (.invokevirtual 46, 3) := dk_182 0 46 (dk_at dksX17_isOn_0 18 rfl rfl)
theorem dX17_isOn_21 : decode cX17_isOn 21 = .ok (.invokevirtual 42, 3) := dk_182 0 42 (dk_at dksX17_isOn_0 21 rfl rfl)
theorem dX17_isOn_24 : decode cX17_isOn 24 = .ok (.iload_n 2, 1) := dk_28 (dk_at dksX17_isOn_1 0 rfl rfl)
theorem dX17_isOn_25 : decode cX17_isOn 25 = .ok (.invokestatic 66, 3) := dk_184 0 66 (dk_at dksX17_isOn_1 1 rfl rfl)
theorem dX17_isOn_28 : decode cX17_isOn 28 = .ok (.ifCond .eq 28, 3) := dk_153 0 28 (dk_at dksX17_isOn_1 4 rfl rfl)
theorem dX17_isOn_31 : decode cX17_isOn 31 = .ok (.aload_n 0, 1) := dk_42 (dk_at dksX17_isOn_1 7 rfl rfl)
theorem dX17_isOn_32 : decode cX17_isOn 32 = .ok (.iload_n 1, 1) := dk_27 (dk_at dksX17_isOn_1 8 rfl rfl)
theorem dX17_isOn_33 : decode cX17_isOn 33 = .ok (.invokevirtual 49, 3) := dk_182 0 49 (dk_at dksX17_isOn_1 9 rfl rfl)
theorem dX17_isOn_36 : decode cX17_isOn 36 = .ok (.aload_n 0, 1) := dk_42 (dk_at dksX17_isOn_1 12 rfl rfl)
theorem dX17_isOn_37 : decode cX17_isOn 37 = .ok (.aload_n 0, 1) := dk_42 (dk_at dksX17_isOn_1 13 rfl rfl)
theorem dX17_isOn_38 : decode cX17_isOn 38 = .ok (.iload_n 1, 1) := dk_27 (dk_at dksX17_isOn_1 14 rfl rfl)
theorem dX17_isOn_39 : decode cX17_isOn 39 = .ok (.invokevirtual 46, 3) := dk_182 0 46 (dk_at dksX17_isOn_1 15 rfl rfl)
theorem dX17_isOn_42 : decode cX17_isOn 42 = .ok (.invokevirtual 49, 3) := dk_182 0 49 (dk_at dksX17_isOn_1 18 rfl rfl)
theorem dX17_isOn_45 : decode cX17_isOn 45 = .ok (.iload_n 3, 1) := dk_29 (dk_at dksX17_isOn_1 21 rfl rfl)
theorem dX17_isOn_46 : decode cX17_isOn 46 = .ok (.invokestatic 66, 3) := dk_184 0 66 (dk_at dksX17_isOn_2 0 rfl rfl)
theorem dX17_isOn_49 : decode cX17_isOn 49 = .ok (.ifCond .eq 7, 3) := dk_153 0 7 (dk_at dksX17_isOn_2 3 rfl rfl)
theorem dX17_isOn_52 : decode cX17_isOn 52 = .ok (.iconst 1, 1) := dk_4 (dk_at dksX17_isOn_2 6 rfl rfl)
theorem dX17_isOn_53 : decode cX17_isOn 53 = .ok (.goto 4, 3) := dk_167 0 4 (dk_at dksX17_isOn_2 7 rfl rfl)
theorem dX17_isOn_56 : decode cX17_isOn 56 = .ok (.iconst 0, 1) := dk_3 (dk_at dksX17_isOn_2 10 rfl rfl)
theorem dX17_isOn_57 : decode cX17_isOn 57 = .ok (.ireturn, 1) := dk_172 (dk_at dksX17_isOn_2 11 rfl rfl)
abbrev cX17_isRight : ByteArray := prog_29_method_10_code
def yX17_isRight : MethodName := ⟨RX17, "isRight", "(III)Z"⟩
def dkwX17_isRight_3 : List UInt8 := [182, 0, 56, 156, 0, 7, 4, 167, 0, 4, 3, 172]
abbrev dktX17_isRight_3 : List UInt8 := dkwX17_isRight_3 ++ []
def dkwX17_isRight_2 : List UInt8 := [42, 27, 28, 29, 182, 0, 56, 158, 0, 7, 4, 167, 0, 22, 3, 167, 0, 18, 42, 27, 28, 29]
abbrev dktX17_isRight_2 : List UInt8 := dkwX17_isRight_2 ++ dktX17_isRight_3
def dkwX17_isRight_1 : List UInt8 := [182, 0, 49, 29, 164, 0, 7, 4, 167, 0, 4, 3, 21, 4, 160, 0, 5, 3, 172, 21, 4, 153, 0, 21]
abbrev dktX17_isRight_1 : List UInt8 := dkwX17_isRight_1 ++ dktX17_isRight_2
def dkwX17_isRight_0 : List UInt8 := [42, 42, 27, 182, 0, 46, 182, 0, 49, 29, 164, 0, 7, 4, 167, 0, 4, 3, 54, 4, 42, 27]
abbrev dktX17_isRight_0 : List UInt8 := dkwX17_isRight_0 ++ dktX17_isRight_1
theorem dksX17_isRight_0 : cX17_isRight.data.toList.drop 0 = dktX17_isRight_0 := by decide +kernel
theorem dksX17_isRight_1 : cX17_isRight.data.toList.drop 22 = dktX17_isRight_1 := dk_seg dksX17_isRight_0 22 rfl rfl
theorem dksX17_isRight_2 : cX17_isRight.data.toList.drop 46 = dktX17_isRight_2 := dk_seg dksX17_isRight_1 24 rfl rfl
theorem dksX17_isRight_3 : cX17_isRight.data.toList.drop 68 = dktX17_isRight_3 := dk_seg dksX17_isRight_2 22 rfl rfl
theorem dX17_isRight_0 : decode cX17_isRight 0 = .ok (.aload_n 0, 1) := dk_42 (dk_at dksX17_isRight_0 0 rfl rfl)
theorem dX17_isRight_1 : decode cX17_isRight 1 = .ok (.aload_n 0, 1) := dk_42 (dk_at dksX17_isRight_0 1 rfl rfl)
theorem dX17_isRight_2 : decode cX17_isRight 2 = .ok (.iload_n 1, 1) := dk_27 (dk_at dksX17_isRight_0 2 rfl rfl)
theorem dX17_isRight_3 : decode cX17_isRight 3 = .ok (.invokevirtual 46, 3) := dk_182 0 46 (dk_at dksX17_isRight_0 3 rfl rfl)
theorem dX17_isRight_6 : decode cX17_isRight 6 = .ok (.invokevirtual 49, 3) := dk_182 0 49 (dk_at dksX17_isRight_0 6 rfl rfl)
theorem dX17_isRight_9 : decode cX17_isRight 9 = .ok (.iload_n 3, 1) := dk_29 (dk_at dksX17_isRight_0 9 rfl rfl)
theorem dX17_isRight_10 : decode cX17_isRight 10 = .ok (.if_icmp .le 7, 3) := dk_164 0 7 (dk_at dksX17_isRight_0 10 rfl rfl)
theorem dX17_isRight_13 : decode cX17_isRight 13 = .ok (.iconst 1, 1) := dk_4 (dk_at dksX17_isRight_0 13 rfl rfl)
theorem dX17_isRight_14 : decode cX17_isRight 14 = .ok (.goto 4, 3) := dk_167 0 4 (dk_at dksX17_isRight_0 14 rfl rfl)
theorem dX17_isRight_17 : decode cX17_isRight 17 = .ok (.iconst 0, 1) := dk_3 (dk_at dksX17_isRight_0 17 rfl rfl)
theorem dX17_isRight_18 : decode cX17_isRight 18 = .ok (.istore 4, 2) := dk_54 4 (dk_at dksX17_isRight_0 18 rfl rfl)
theorem dX17_isRight_20 : decode cX17_isRight 20 = .ok (.aload_n 0, 1) := dk_42 (dk_at dksX17_isRight_0 20 rfl rfl)
theorem dX17_isRight_21 : decode cX17_isRight 21 = .ok (.iload_n 1, 1) := dk_27 (dk_at dksX17_isRight_0 21 rfl rfl)
theorem dX17_isRight_22 : decode cX17_isRight 22 = .ok (.invokevirtual 49, 3) := dk_182 0 49 (dk_at dksX17_isRight_1 0 rfl rfl)
theorem dX17_isRight_25 : decode cX17_isRight 25 = .ok (.iload_n 3, 1) := dk_29 (dk_at dksX17_isRight_1 3 rfl rfl)
theorem dX17_isRight_26 : decode cX17_isRight 26 = .ok (.if_icmp .le 7, 3) := dk_164 0 7 (dk_at dksX17_isRight_1 4 rfl rfl)
theorem dX17_isRight_29 : decode cX17_isRight 29 = .ok (.iconst 1, 1) := dk_4 (dk_at dksX17_isRight_1 7 rfl rfl)
theorem dX17_isRight_30 : decode cX17_isRight 30 = .ok (.goto 4, 3) := dk_167 0 4 (dk_at dksX17_isRight_1 8 rfl rfl)
theorem dX17_isRight_33 : decode cX17_isRight 33 = .ok (.iconst 0, 1) := dk_3 (dk_at dksX17_isRight_1 11 rfl rfl)
theorem dX17_isRight_34 : decode cX17_isRight 34 = .ok (.iload 4, 2) := dk_21 4 (dk_at dksX17_isRight_1 12 rfl rfl)
theorem dX17_isRight_36 : decode cX17_isRight 36 = .ok (.if_icmp .ne 5, 3) := dk_160 0 5 (dk_at dksX17_isRight_1 14 rfl rfl)
theorem dX17_isRight_39 : decode cX17_isRight 39 = .ok (.iconst 0, 1) := dk_3 (dk_at dksX17_isRight_1 17 rfl rfl)
theorem dX17_isRight_40 : decode cX17_isRight 40 = .ok (.ireturn, 1) := dk_172 (dk_at dksX17_isRight_1 18 rfl rfl)
theorem dX17_isRight_41 : decode cX17_isRight 41 = .ok (.iload 4, 2) := dk_21 4 (dk_at dksX17_isRight_1 19 rfl rfl)
theorem dX17_isRight_43 : decode cX17_isRight 43 = .ok (.ifCond .eq 21, 3) := dk_153 0 21 (dk_at dksX17_isRight_1 21 rfl rfl)
theorem dX17_isRight_46 : decode cX17_isRight 46 = .ok (.aload_n 0, 1) := dk_42 (dk_at dksX17_isRight_2 0 rfl rfl)
theorem dX17_isRight_47 : decode cX17_isRight 47 = .ok (.iload_n 1, 1) := dk_27 (dk_at dksX17_isRight_2 1 rfl rfl)
theorem dX17_isRight_48 : decode cX17_isRight 48 = .ok (.iload_n 2, 1) := dk_28 (dk_at dksX17_isRight_2 2 rfl rfl)
theorem dX17_isRight_49 : decode cX17_isRight 49 = .ok (.iload_n 3, 1) := dk_29 (dk_at dksX17_isRight_2 3 rfl rfl)
theorem dX17_isRight_50 : decode cX17_isRight 50 = .ok (.invokevirtual 56, 3) := dk_182 0 56 (dk_at dksX17_isRight_2 4 rfl rfl)
theorem dX17_isRight_53 : decode cX17_isRight 53 = .ok (.ifCond .le 7, 3) := dk_158 0 7 (dk_at dksX17_isRight_2 7 rfl rfl)
theorem dX17_isRight_56 : decode cX17_isRight 56 = .ok (.iconst 1, 1) := dk_4 (dk_at dksX17_isRight_2 10 rfl rfl)
theorem dX17_isRight_57 : decode cX17_isRight 57 = .ok (.goto 22, 3) := dk_167 0 22 (dk_at dksX17_isRight_2 11 rfl rfl)
theorem dX17_isRight_60 : decode cX17_isRight 60 = .ok (.iconst 0, 1) := dk_3 (dk_at dksX17_isRight_2 14 rfl rfl)
theorem dX17_isRight_61 : decode cX17_isRight 61 = .ok (.goto 18, 3) := dk_167 0 18 (dk_at dksX17_isRight_2 15 rfl rfl)
theorem dX17_isRight_64 : decode cX17_isRight 64 = .ok (.aload_n 0, 1) := dk_42 (dk_at dksX17_isRight_2 18 rfl rfl)
theorem dX17_isRight_65 : decode cX17_isRight 65 = .ok (.iload_n 1, 1) := dk_27 (dk_at dksX17_isRight_2 19 rfl rfl)
theorem dX17_isRight_66 : decode cX17_isRight 66 = .ok (.iload_n 2, 1) := dk_28 (dk_at dksX17_isRight_2 20 rfl rfl)
theorem dX17_isRight_67 : decode cX17_isRight 67 = .ok (.iload_n 3, 1) := dk_29 (dk_at dksX17_isRight_2 21 rfl rfl)
theorem dX17_isRight_68 : decode cX17_isRight 68 = .ok (.invokevirtual 56, 3) := dk_182 0 56 (dk_at dksX17_isRight_3 0 rfl rfl)
theorem dX17_isRight_71 : decode cX17_isRight 71 = .ok (.ifCond .ge 7, 3) := dk_156 0 7 (dk_at dksX17_isRight_3 3 rfl rfl)
theorem dX17_isRight_74 : decode cX17_isRight 74 = .ok (.iconst 1, 1) := dk_4 (dk_at dksX17_isRight_3 6 rfl rfl)
theorem dX17_isRight_75 : decode cX17_isRight 75 = .ok (.goto 4, 3) := dk_167 0 4 (dk_at dksX17_isRight_3 7 rfl rfl)
theorem dX17_isRight_78 : decode cX17_isRight 78 = .ok (.iconst 0, 1) := dk_3 (dk_at dksX17_isRight_3 10 rfl rfl)
theorem dX17_isRight_79 : decode cX17_isRight 79 = .ok (.ireturn, 1) := dk_172 (dk_at dksX17_isRight_3 11 rfl rfl)
abbrev cX17_gridPoints : ByteArray := prog_29_method_12_code
def yX17_gridPoints : MethodName := ⟨RX17, "gridPoints", "()I"⟩
def dkwX17_gridPoints_2 : List UInt8 := [184, 0, 76, 184, 0, 81, 96, 60, 132, 2, 1, 167, 255, 202, 27, 172]
abbrev dktX17_gridPoints_2 : List UInt8 := dkwX17_gridPoints_2 ++ []
def dkwX17_gridPoints_1 : List UInt8 := [28, 182, 0, 42, 100, 184, 0, 76, 42, 42, 28, 182, 0, 46, 182, 0, 49, 42, 28, 182, 0, 49, 100]
abbrev dktX17_gridPoints_1 : List UInt8 := dkwX17_gridPoints_1 ++ dktX17_gridPoints_2
def dkwX17_gridPoints_0 : List UInt8 := [3, 60, 3, 61, 28, 42, 180, 0, 21, 190, 162, 0, 51, 27, 42, 42, 28, 182, 0, 46, 182, 0, 42, 42]
abbrev dktX17_gridPoints_0 : List UInt8 := dkwX17_gridPoints_0 ++ dktX17_gridPoints_1
theorem dksX17_gridPoints_0 : cX17_gridPoints.data.toList.drop 0 = dktX17_gridPoints_0 := by decide +kernel
theorem dksX17_gridPoints_1 : cX17_gridPoints.data.toList.drop 24 = dktX17_gridPoints_1 := dk_seg dksX17_gridPoints_0 24 rfl rfl
theorem dksX17_gridPoints_2 : cX17_gridPoints.data.toList.drop 47 = dktX17_gridPoints_2 := dk_seg dksX17_gridPoints_1 23 rfl rfl
theorem dX17_gridPoints_0 : decode cX17_gridPoints 0 = .ok (.iconst 0, 1) := dk_3 (dk_at dksX17_gridPoints_0 0 rfl rfl)
theorem dX17_gridPoints_1 : decode cX17_gridPoints 1 = .ok (.istore_n 1, 1) := dk_60 (dk_at dksX17_gridPoints_0 1 rfl rfl)
theorem dX17_gridPoints_2 : decode cX17_gridPoints 2 = .ok (.iconst 0, 1) := dk_3 (dk_at dksX17_gridPoints_0 2 rfl rfl)
theorem dX17_gridPoints_3 : decode cX17_gridPoints 3 = .ok (.istore_n 2, 1) := dk_61 (dk_at dksX17_gridPoints_0 3 rfl rfl)
theorem dX17_gridPoints_4 : decode cX17_gridPoints 4 = .ok (.iload_n 2, 1) := dk_28 (dk_at dksX17_gridPoints_0 4 rfl rfl)
theorem dX17_gridPoints_5 : decode cX17_gridPoints 5 = .ok (.aload_n 0, 1) := dk_42 (dk_at dksX17_gridPoints_0 5 rfl rfl)
theorem dX17_gridPoints_6 : decode cX17_gridPoints 6 = .ok (.getfield 21, 3) := dk_180 0 21 (dk_at dksX17_gridPoints_0 6 rfl rfl)
theorem dX17_gridPoints_9 : decode cX17_gridPoints 9 = .ok (.arraylength, 1) := dk_190 (dk_at dksX17_gridPoints_0 9 rfl rfl)
theorem dX17_gridPoints_10 : decode cX17_gridPoints 10 = .ok (.if_icmp .ge 51, 3) := dk_162 0 51 (dk_at dksX17_gridPoints_0 10 rfl rfl)
theorem dX17_gridPoints_13 : decode cX17_gridPoints 13 = .ok (.iload_n 1, 1) := dk_27 (dk_at dksX17_gridPoints_0 13 rfl rfl)
theorem dX17_gridPoints_14 : decode cX17_gridPoints 14 = .ok (.aload_n 0, 1) := dk_42 (dk_at dksX17_gridPoints_0 14 rfl rfl)
theorem dX17_gridPoints_15 : decode cX17_gridPoints 15 = .ok (.aload_n 0, 1) := dk_42 (dk_at dksX17_gridPoints_0 15 rfl rfl)
theorem dX17_gridPoints_16 : decode cX17_gridPoints 16 = .ok (.iload_n 2, 1) := dk_28 (dk_at dksX17_gridPoints_0 16 rfl rfl)
theorem dX17_gridPoints_17 : decode cX17_gridPoints 17 = .ok (.invokevirtual 46, 3) := dk_182 0 46 (dk_at dksX17_gridPoints_0 17 rfl rfl)
theorem dX17_gridPoints_20 : decode cX17_gridPoints 20 = .ok (.invokevirtual 42, 3) := dk_182 0 42 (dk_at dksX17_gridPoints_0 20 rfl rfl)
theorem dX17_gridPoints_23 : decode cX17_gridPoints 23 = .ok (.aload_n 0, 1) := dk_42 (dk_at dksX17_gridPoints_0 23 rfl rfl)
theorem dX17_gridPoints_24 : decode cX17_gridPoints 24 = .ok (.iload_n 2, 1) := dk_28 (dk_at dksX17_gridPoints_1 0 rfl rfl)
theorem dX17_gridPoints_25 : decode cX17_gridPoints 25 = .ok (.invokevirtual 42, 3) := dk_182 0 42 (dk_at dksX17_gridPoints_1 1 rfl rfl)
theorem dX17_gridPoints_28 : decode cX17_gridPoints 28 = .ok (.isub, 1) := dk_100 (dk_at dksX17_gridPoints_1 4 rfl rfl)
theorem dX17_gridPoints_29 : decode cX17_gridPoints 29 = .ok (.invokestatic 76, 3) := dk_184 0 76 (dk_at dksX17_gridPoints_1 5 rfl rfl)
theorem dX17_gridPoints_32 : decode cX17_gridPoints 32 = .ok (.aload_n 0, 1) := dk_42 (dk_at dksX17_gridPoints_1 8 rfl rfl)
theorem dX17_gridPoints_33 : decode cX17_gridPoints 33 = .ok (.aload_n 0, 1) := dk_42 (dk_at dksX17_gridPoints_1 9 rfl rfl)
theorem dX17_gridPoints_34 : decode cX17_gridPoints 34 = .ok (.iload_n 2, 1) := dk_28 (dk_at dksX17_gridPoints_1 10 rfl rfl)
theorem dX17_gridPoints_35 : decode cX17_gridPoints 35 = .ok (.invokevirtual 46, 3) := dk_182 0 46 (dk_at dksX17_gridPoints_1 11 rfl rfl)
theorem dX17_gridPoints_38 : decode cX17_gridPoints 38 = .ok (.invokevirtual 49, 3) := dk_182 0 49 (dk_at dksX17_gridPoints_1 14 rfl rfl)
theorem dX17_gridPoints_41 : decode cX17_gridPoints 41 = .ok (.aload_n 0, 1) := dk_42 (dk_at dksX17_gridPoints_1 17 rfl rfl)
theorem dX17_gridPoints_42 : decode cX17_gridPoints 42 = .ok (.iload_n 2, 1) := dk_28 (dk_at dksX17_gridPoints_1 18 rfl rfl)
theorem dX17_gridPoints_43 : decode cX17_gridPoints 43 = .ok (.invokevirtual 49, 3) := dk_182 0 49 (dk_at dksX17_gridPoints_1 19 rfl rfl)
theorem dX17_gridPoints_46 : decode cX17_gridPoints 46 = .ok (.isub, 1) := dk_100 (dk_at dksX17_gridPoints_1 22 rfl rfl)
theorem dX17_gridPoints_47 : decode cX17_gridPoints 47 = .ok (.invokestatic 76, 3) := dk_184 0 76 (dk_at dksX17_gridPoints_2 0 rfl rfl)
theorem dX17_gridPoints_50 : decode cX17_gridPoints 50 = .ok (.invokestatic 81, 3) := dk_184 0 81 (dk_at dksX17_gridPoints_2 3 rfl rfl)
theorem dX17_gridPoints_53 : decode cX17_gridPoints 53 = .ok (.iadd, 1) := dk_96 (dk_at dksX17_gridPoints_2 6 rfl rfl)
theorem dX17_gridPoints_54 : decode cX17_gridPoints 54 = .ok (.istore_n 1, 1) := dk_60 (dk_at dksX17_gridPoints_2 7 rfl rfl)
theorem dX17_gridPoints_55 : decode cX17_gridPoints 55 = .ok (.iinc 2 1, 3) := dk_132 2 1 (dk_at dksX17_gridPoints_2 8 rfl rfl)
theorem dX17_gridPoints_58 : decode cX17_gridPoints 58 = .ok (.goto (-54), 3) := dk_167 255 202 (dk_at dksX17_gridPoints_2 11 rfl rfl)
theorem dX17_gridPoints_61 : decode cX17_gridPoints 61 = .ok (.iload_n 1, 1) := dk_27 (dk_at dksX17_gridPoints_2 14 rfl rfl)
theorem dX17_gridPoints_62 : decode cX17_gridPoints 62 = .ok (.ireturn, 1) := dk_172 (dk_at dksX17_gridPoints_2 15 rfl rfl)
abbrev cX17_isConvex : ByteArray := prog_29_method_13_code
def yX17_isConvex : MethodName := ⟨RX17, "isConvex", "()Z"⟩
def dkwX17_isConvex_2 : List UInt8 := [132, 1, 1, 167, 255, 208, 4, 172]
abbrev dktX17_isConvex_2 : List UInt8 := dkwX17_isConvex_2 ++ []
def dkwX17_isConvex_1 : List UInt8 := [182, 0, 42, 42, 42, 42, 27, 182, 0, 46, 182, 0, 46, 182, 0, 49, 182, 0, 56, 156, 0, 5, 3, 172]
abbrev dktX17_isConvex_1 : List UInt8 := dkwX17_isConvex_1 ++ dktX17_isConvex_2
def dkwX17_isConvex_0 : List UInt8 := [3, 60, 27, 42, 180, 0, 21, 190, 162, 0, 45, 42, 27, 42, 42, 42, 27, 182, 0, 46, 182, 0, 46]
abbrev dktX17_isConvex_0 : List UInt8 := dkwX17_isConvex_0 ++ dktX17_isConvex_1
theorem dksX17_isConvex_0 : cX17_isConvex.data.toList.drop 0 = dktX17_isConvex_0 := by decide +kernel
theorem dksX17_isConvex_1 : cX17_isConvex.data.toList.drop 23 = dktX17_isConvex_1 := dk_seg dksX17_isConvex_0 23 rfl rfl
theorem dksX17_isConvex_2 : cX17_isConvex.data.toList.drop 47 = dktX17_isConvex_2 := dk_seg dksX17_isConvex_1 24 rfl rfl
theorem dX17_isConvex_0 : decode cX17_isConvex 0 = .ok (.iconst 0, 1) := dk_3 (dk_at dksX17_isConvex_0 0 rfl rfl)
theorem dX17_isConvex_1 : decode cX17_isConvex 1 = .ok (.istore_n 1, 1) := dk_60 (dk_at dksX17_isConvex_0 1 rfl rfl)
theorem dX17_isConvex_2 : decode cX17_isConvex 2 = .ok (.iload_n 1, 1) := dk_27 (dk_at dksX17_isConvex_0 2 rfl rfl)
theorem dX17_isConvex_3 : decode cX17_isConvex 3 = .ok (.aload_n 0, 1) := dk_42 (dk_at dksX17_isConvex_0 3 rfl rfl)
theorem dX17_isConvex_4 : decode cX17_isConvex 4 = .ok (.getfield 21, 3) := dk_180 0 21 (dk_at dksX17_isConvex_0 4 rfl rfl)
theorem dX17_isConvex_7 : decode cX17_isConvex 7 = .ok (.arraylength, 1) := dk_190 (dk_at dksX17_isConvex_0 7 rfl rfl)
theorem dX17_isConvex_8 : decode cX17_isConvex 8 = .ok (.if_icmp .ge 45, 3) := dk_162 0 45 (dk_at dksX17_isConvex_0 8 rfl rfl)
theorem dX17_isConvex_11 : decode cX17_isConvex 11 = .ok (.aload_n 0, 1) := dk_42 (dk_at dksX17_isConvex_0 11 rfl rfl)
theorem dX17_isConvex_12 : decode cX17_isConvex 12 = .ok (.iload_n 1, 1) := dk_27 (dk_at dksX17_isConvex_0 12 rfl rfl)
theorem dX17_isConvex_13 : decode cX17_isConvex 13 = .ok (.aload_n 0, 1) := dk_42 (dk_at dksX17_isConvex_0 13 rfl rfl)
theorem dX17_isConvex_14 : decode cX17_isConvex 14 = .ok (.aload_n 0, 1) := dk_42 (dk_at dksX17_isConvex_0 14 rfl rfl)
theorem dX17_isConvex_15 : decode cX17_isConvex 15 = .ok (.aload_n 0, 1) := dk_42 (dk_at dksX17_isConvex_0 15 rfl rfl)
theorem dX17_isConvex_16 : decode cX17_isConvex 16 = .ok (.iload_n 1, 1) := dk_27 (dk_at dksX17_isConvex_0 16 rfl rfl)
theorem dX17_isConvex_17 : decode cX17_isConvex 17 = .ok (.invokevirtual 46, 3) := dk_182 0 46 (dk_at dksX17_isConvex_0 17 rfl rfl)
theorem dX17_isConvex_20 : decode cX17_isConvex 20 = .ok (.invokevirtual 46, 3) := dk_182 0 46 (dk_at dksX17_isConvex_0 20 rfl rfl)
theorem dX17_isConvex_23 : decode cX17_isConvex 23 = .ok (.invokevirtual 42, 3) := dk_182 0 42 (dk_at dksX17_isConvex_1 0 rfl rfl)
theorem dX17_isConvex_26 : decode cX17_isConvex 26 = .ok (.aload_n 0, 1) := dk_42 (dk_at dksX17_isConvex_1 3 rfl rfl)
theorem dX17_isConvex_27 : decode cX17_isConvex 27 = .ok (.aload_n 0, 1) := dk_42 (dk_at dksX17_isConvex_1 4 rfl rfl)
theorem dX17_isConvex_28 : decode cX17_isConvex 28 = .ok (.aload_n 0, 1) := dk_42 (dk_at dksX17_isConvex_1 5 rfl rfl)
theorem dX17_isConvex_29 : decode cX17_isConvex 29 = .ok (.iload_n 1, 1) := dk_27 (dk_at dksX17_isConvex_1 6 rfl rfl)
theorem dX17_isConvex_30 : decode cX17_isConvex 30 = .ok (.invokevirtual 46, 3) := dk_182 0 46 (dk_at dksX17_isConvex_1 7 rfl rfl)
theorem dX17_isConvex_33 : decode cX17_isConvex 33 = .ok (.invokevirtual 46, 3) := dk_182 0 46 (dk_at dksX17_isConvex_1 10 rfl rfl)
theorem dX17_isConvex_36 : decode cX17_isConvex 36 = .ok (.invokevirtual 49, 3) := dk_182 0 49 (dk_at dksX17_isConvex_1 13 rfl rfl)
theorem dX17_isConvex_39 : decode cX17_isConvex 39 = .ok (.invokevirtual 56, 3) := dk_182 0 56 (dk_at dksX17_isConvex_1 16 rfl rfl)
theorem dX17_isConvex_42 : decode cX17_isConvex 42 = .ok (.ifCond .ge 5, 3) := dk_156 0 5 (dk_at dksX17_isConvex_1 19 rfl rfl)
theorem dX17_isConvex_45 : decode cX17_isConvex 45 = .ok (.iconst 0, 1) := dk_3 (dk_at dksX17_isConvex_1 22 rfl rfl)
theorem dX17_isConvex_46 : decode cX17_isConvex 46 = .ok (.ireturn, 1) := dk_172 (dk_at dksX17_isConvex_1 23 rfl rfl)
theorem dX17_isConvex_47 : decode cX17_isConvex 47 = .ok (.iinc 1 1, 3) := dk_132 1 1 (dk_at dksX17_isConvex_2 0 rfl rfl)
theorem dX17_isConvex_50 : decode cX17_isConvex 50 = .ok (.goto (-48), 3) := dk_167 255 208 (dk_at dksX17_isConvex_2 3 rfl rfl)
theorem dX17_isConvex_53 : decode cX17_isConvex 53 = .ok (.iconst 1, 1) := dk_4 (dk_at dksX17_isConvex_2 6 rfl rfl)
theorem dX17_isConvex_54 : decode cX17_isConvex 54 = .ok (.ireturn, 1) := dk_172 (dk_at dksX17_isConvex_2 7 rfl rfl)
abbrev cX17_hull : ByteArray := prog_29_method_15_code
def yX17_hull : MethodName := ⟨RX17, "hull", "()Ljava/util/List;"⟩
def dkwX17_hull_3 : List UInt8 := [27, 159, 0, 21, 44, 29, 184, 0, 102, 182, 0, 106, 87, 42, 29, 182, 0, 110, 62, 167, 255, 229, 44, 176]
abbrev dktX17_hull_3 : List UInt8 := dkwX17_hull_3 ++ []
def dkwX17_hull_2 : List UInt8 := [132, 4, 1, 167, 255, 225, 187, 0, 95, 89, 183, 0, 97, 77, 27, 62, 44, 182, 0, 98, 154, 0, 8, 29]
abbrev dktX17_hull_2 : List UInt8 := dkwX17_hull_2 ++ dktX17_hull_3
def dkwX17_hull_1 : List UInt8 := [44, 21, 4, 46, 54, 5, 42, 180, 0, 3, 21, 5, 27, 182, 0, 91, 153, 0, 6, 21, 5, 60]
abbrev dktX17_hull_1 : List UInt8 := dkwX17_hull_1 ++ dktX17_hull_2
def dkwX17_hull_0 : List UInt8 := [42, 180, 0, 21, 3, 46, 60, 42, 180, 0, 21, 77, 44, 190, 62, 3, 54, 4, 21, 4, 29, 162, 0, 31]
abbrev dktX17_hull_0 : List UInt8 := dkwX17_hull_0 ++ dktX17_hull_1
theorem dksX17_hull_0 : cX17_hull.data.toList.drop 0 = dktX17_hull_0 := by decide +kernel
theorem dksX17_hull_1 : cX17_hull.data.toList.drop 24 = dktX17_hull_1 := dk_seg dksX17_hull_0 24 rfl rfl
theorem dksX17_hull_2 : cX17_hull.data.toList.drop 46 = dktX17_hull_2 := dk_seg dksX17_hull_1 22 rfl rfl
theorem dksX17_hull_3 : cX17_hull.data.toList.drop 70 = dktX17_hull_3 := dk_seg dksX17_hull_2 24 rfl rfl
theorem dX17_hull_0 : decode cX17_hull 0 = .ok (.aload_n 0, 1) := dk_42 (dk_at dksX17_hull_0 0 rfl rfl)
theorem dX17_hull_1 : decode cX17_hull 1 = .ok (.getfield 21, 3) := dk_180 0 21 (dk_at dksX17_hull_0 1 rfl rfl)
theorem dX17_hull_4 : decode cX17_hull 4 = .ok (.iconst 0, 1) := dk_3 (dk_at dksX17_hull_0 4 rfl rfl)
theorem dX17_hull_5 : decode cX17_hull 5 = .ok (.iaload, 1) := dk_46 (dk_at dksX17_hull_0 5 rfl rfl)
theorem dX17_hull_6 : decode cX17_hull 6 = .ok (.istore_n 1, 1) := dk_60 (dk_at dksX17_hull_0 6 rfl rfl)
theorem dX17_hull_7 : decode cX17_hull 7 = .ok (.aload_n 0, 1) := dk_42 (dk_at dksX17_hull_0 7 rfl rfl)
theorem dX17_hull_8 : decode cX17_hull 8 = .ok (.getfield 21, 3) := dk_180 0 21 (dk_at dksX17_hull_0 8 rfl rfl)
theorem dX17_hull_11 : decode cX17_hull 11 = .ok (.astore_n 2, 1) := dk_77 (dk_at dksX17_hull_0 11 rfl rfl)
theorem dX17_hull_12 : decode cX17_hull 12 = .ok (.aload_n 2, 1) := dk_44 (dk_at dksX17_hull_0 12 rfl rfl)
theorem dX17_hull_13 : decode cX17_hull 13 = .ok (.arraylength, 1) := dk_190 (dk_at dksX17_hull_0 13 rfl rfl)
theorem dX17_hull_14 : decode cX17_hull 14 = .ok (.istore_n 3, 1) := dk_62 (dk_at dksX17_hull_0 14 rfl rfl)
theorem dX17_hull_15 : decode cX17_hull 15 = .ok (.iconst 0, 1) := dk_3 (dk_at dksX17_hull_0 15 rfl rfl)
theorem dX17_hull_16 : decode cX17_hull 16 = .ok (.istore 4, 2) := dk_54 4 (dk_at dksX17_hull_0 16 rfl rfl)
theorem dX17_hull_18 : decode cX17_hull 18 = .ok (.iload 4, 2) := dk_21 4 (dk_at dksX17_hull_0 18 rfl rfl)
theorem dX17_hull_20 : decode cX17_hull 20 = .ok (.iload_n 3, 1) := dk_29 (dk_at dksX17_hull_0 20 rfl rfl)
theorem dX17_hull_21 : decode cX17_hull 21 = .ok (.if_icmp .ge 31, 3) := dk_162 0 31 (dk_at dksX17_hull_0 21 rfl rfl)
theorem dX17_hull_24 : decode cX17_hull 24 = .ok (.aload_n 2, 1) := dk_44 (dk_at dksX17_hull_1 0 rfl rfl)
theorem dX17_hull_25 : decode cX17_hull 25 = .ok (.iload 4, 2) := dk_21 4 (dk_at dksX17_hull_1 1 rfl rfl)
theorem dX17_hull_27 : decode cX17_hull 27 = .ok (.iaload, 1) := dk_46 (dk_at dksX17_hull_1 3 rfl rfl)
theorem dX17_hull_28 : decode cX17_hull 28 = .ok (.istore 5, 2) := dk_54 5 (dk_at dksX17_hull_1 4 rfl rfl)
theorem dX17_hull_30 : decode cX17_hull 30 = .ok (.aload_n 0, 1) := dk_42 (dk_at dksX17_hull_1 6 rfl rfl)
theorem dX17_hull_31 : decode cX17_hull 31 = .ok (.getfield 3, 3) := dk_180 0 3 (dk_at dksX17_hull_1 7 rfl rfl)
theorem dX17_hull_34 : decode cX17_hull 34 = .ok (.iload 5, 2) := dk_21 5 (dk_at dksX17_hull_1 10 rfl rfl)
theorem dX17_hull_36 : decode cX17_hull 36 = .ok (.iload_n 1, 1) := dk_27 (dk_at dksX17_hull_1 12 rfl rfl)
theorem dX17_hull_37 : decode cX17_hull 37 = .ok (.invokevirtual 91, 3) := dk_182 0 91 (dk_at dksX17_hull_1 13 rfl rfl)
theorem dX17_hull_40 : decode cX17_hull 40 = .ok (.ifCond .eq 6, 3) := dk_153 0 6 (dk_at dksX17_hull_1 16 rfl rfl)
theorem dX17_hull_43 : decode cX17_hull 43 = .ok (.iload 5, 2) := dk_21 5 (dk_at dksX17_hull_1 19 rfl rfl)
theorem dX17_hull_45 : decode cX17_hull 45 = .ok (.istore_n 1, 1) := dk_60 (dk_at dksX17_hull_1 21 rfl rfl)
theorem dX17_hull_46 : decode cX17_hull 46 = .ok (.iinc 4 1, 3) := dk_132 4 1 (dk_at dksX17_hull_2 0 rfl rfl)
theorem dX17_hull_49 : decode cX17_hull 49 = .ok (.goto (-31), 3) := dk_167 255 225 (dk_at dksX17_hull_2 3 rfl rfl)
theorem dX17_hull_52 : decode cX17_hull 52 = .ok (.new 95, 3) := dk_187 0 95 (dk_at dksX17_hull_2 6 rfl rfl)
theorem dX17_hull_55 : decode cX17_hull 55 = .ok (.dup, 1) := dk_89 (dk_at dksX17_hull_2 9 rfl rfl)
theorem dX17_hull_56 : decode cX17_hull 56 = .ok (.invokespecial 97, 3) := dk_183 0 97 (dk_at dksX17_hull_2 10 rfl rfl)
theorem dX17_hull_59 : decode cX17_hull 59 = .ok (.astore_n 2, 1) := dk_77 (dk_at dksX17_hull_2 13 rfl rfl)
theorem dX17_hull_60 : decode cX17_hull 60 = .ok (.iload_n 1, 1) := dk_27 (dk_at dksX17_hull_2 14 rfl rfl)
theorem dX17_hull_61 : decode cX17_hull 61 = .ok (.istore_n 3, 1) := dk_62 (dk_at dksX17_hull_2 15 rfl rfl)
theorem dX17_hull_62 : decode cX17_hull 62 = .ok (.aload_n 2, 1) := dk_44 (dk_at dksX17_hull_2 16 rfl rfl)
theorem dX17_hull_63 : decode cX17_hull 63 = .ok (.invokevirtual 98, 3) := dk_182 0 98 (dk_at dksX17_hull_2 17 rfl rfl)
theorem dX17_hull_66 : decode cX17_hull 66 = .ok (.ifCond .ne 8, 3) := dk_154 0 8 (dk_at dksX17_hull_2 20 rfl rfl)
theorem dX17_hull_69 : decode cX17_hull 69 = .ok (.iload_n 3, 1) := dk_29 (dk_at dksX17_hull_2 23 rfl rfl)
theorem dX17_hull_70 : decode cX17_hull 70 = .ok (.iload_n 1, 1) := dk_27 (dk_at dksX17_hull_3 0 rfl rfl)
theorem dX17_hull_71 : decode cX17_hull 71 = .ok (.if_icmp .eq 21, 3) := dk_159 0 21 (dk_at dksX17_hull_3 1 rfl rfl)
theorem dX17_hull_74 : decode cX17_hull 74 = .ok (.aload_n 2, 1) := dk_44 (dk_at dksX17_hull_3 4 rfl rfl)
theorem dX17_hull_75 : decode cX17_hull 75 = .ok (.iload_n 3, 1) := dk_29 (dk_at dksX17_hull_3 5 rfl rfl)
theorem dX17_hull_76 : decode cX17_hull 76 = .ok (.invokestatic 102, 3) := dk_184 0 102 (dk_at dksX17_hull_3 6 rfl rfl)
theorem dX17_hull_79 : decode cX17_hull 79 = .ok (.invokevirtual 106, 3) := dk_182 0 106 (dk_at dksX17_hull_3 9 rfl rfl)
theorem dX17_hull_82 : decode cX17_hull 82 = .ok (.pop, 1) := dk_87 (dk_at dksX17_hull_3 12 rfl rfl)
theorem dX17_hull_83 : decode cX17_hull 83 = .ok (.aload_n 0, 1) := dk_42 (dk_at dksX17_hull_3 13 rfl rfl)
theorem dX17_hull_84 : decode cX17_hull 84 = .ok (.iload_n 3, 1) := dk_29 (dk_at dksX17_hull_3 14 rfl rfl)
theorem dX17_hull_85 : decode cX17_hull 85 = .ok (.invokevirtual 110, 3) := dk_182 0 110 (dk_at dksX17_hull_3 15 rfl rfl)
theorem dX17_hull_88 : decode cX17_hull 88 = .ok (.istore_n 3, 1) := dk_62 (dk_at dksX17_hull_3 18 rfl rfl)
theorem dX17_hull_89 : decode cX17_hull 89 = .ok (.goto (-27), 3) := dk_167 255 229 (dk_at dksX17_hull_3 19 rfl rfl)
theorem dX17_hull_92 : decode cX17_hull 92 = .ok (.aload_n 2, 1) := dk_44 (dk_at dksX17_hull_3 22 rfl rfl)
theorem dX17_hull_93 : decode cX17_hull 93 = .ok (.areturn, 1) := dk_176 (dk_at dksX17_hull_3 23 rfl rfl)
abbrev cX17_around : ByteArray := prog_29_method_16_code
def yX17_around : MethodName := ⟨RX17, "around", "(I)I"⟩
def dkwX17_around_9 : List UInt8 := [153, 0, 6, 21, 6, 61, 132, 5, 1, 167, 255, 54, 28, 172]
abbrev dktX17_around_9 : List UInt8 := dkwX17_around_9 ++ []
def dkwX17_around_8 : List UInt8 := [162, 0, 7, 4, 167, 0, 4, 3, 54, 8, 21, 7, 155, 0, 13, 21, 7, 154, 0, 11, 21, 8]
abbrev dktX17_around_8 : List UInt8 := dkwX17_around_8 ++ dktX17_around_9
def dkwX17_around_7 : List UInt8 := [182, 0, 85, 163, 0, 22, 42, 180, 0, 3, 21, 6, 28, 182, 0, 113, 153, 0, 13, 21, 6, 28]
abbrev dktX17_around_7 : List UInt8 := dkwX17_around_7 ++ dktX17_around_8
def dkwX17_around_6 : List UInt8 := [180, 0, 3, 28, 42, 180, 0, 3, 180, 0, 34, 27, 46, 42, 180, 0, 3, 180, 0, 39, 27, 46]
abbrev dktX17_around_6 : List UInt8 := dkwX17_around_6 ++ dktX17_around_7
def dkwX17_around_5 : List UInt8 := [42, 180, 0, 3, 180, 0, 34, 27, 46, 42, 180, 0, 3, 180, 0, 39, 27, 46, 182, 0, 85, 42]
abbrev dktX17_around_5 : List UInt8 := dkwX17_around_5 ++ dktX17_around_6
def dkwX17_around_4 : List UInt8 := [21, 6, 46, 42, 180, 0, 3, 180, 0, 39, 21, 6, 46, 184, 0, 52, 54, 7, 42, 180, 0, 3, 21, 6]
abbrev dktX17_around_4 : List UInt8 := dkwX17_around_4 ++ dktX17_around_5
def dkwX17_around_3 : List UInt8 := [180, 0, 3, 180, 0, 34, 28, 46, 42, 180, 0, 3, 180, 0, 39, 28, 46, 42, 180, 0, 3, 180, 0, 34]
abbrev dktX17_around_3 : List UInt8 := dkwX17_around_3 ++ dktX17_around_4
def dkwX17_around_2 : List UInt8 := [2, 167, 0, 62, 42, 180, 0, 3, 180, 0, 34, 27, 46, 42, 180, 0, 3, 180, 0, 39, 27, 46, 42]
abbrev dktX17_around_2 : List UInt8 := dkwX17_around_2 ++ dktX17_around_3
def dkwX17_around_1 : List UInt8 := [46, 54, 6, 42, 180, 0, 3, 21, 6, 27, 182, 0, 113, 153, 0, 6, 167, 0, 173, 28, 27, 160, 0, 7]
abbrev dktX17_around_1 : List UInt8 := dkwX17_around_1 ++ dktX17_around_2
def dkwX17_around_0 : List UInt8 := [27, 61, 42, 180, 0, 21, 78, 45, 190, 54, 4, 3, 54, 5, 21, 5, 21, 4, 162, 0, 201, 45, 21, 5]
abbrev dktX17_around_0 : List UInt8 := dkwX17_around_0 ++ dktX17_around_1
theorem dksX17_around_0 : cX17_around.data.toList.drop 0 = dktX17_around_0 := by decide +kernel
theorem dksX17_around_1 : cX17_around.data.toList.drop 24 = dktX17_around_1 := dk_seg dksX17_around_0 24 rfl rfl
theorem dksX17_around_2 : cX17_around.data.toList.drop 48 = dktX17_around_2 := dk_seg dksX17_around_1 24 rfl rfl
theorem dksX17_around_3 : cX17_around.data.toList.drop 71 = dktX17_around_3 := dk_seg dksX17_around_2 23 rfl rfl
theorem dksX17_around_4 : cX17_around.data.toList.drop 95 = dktX17_around_4 := dk_seg dksX17_around_3 24 rfl rfl
theorem dksX17_around_5 : cX17_around.data.toList.drop 119 = dktX17_around_5 := dk_seg dksX17_around_4 24 rfl rfl
theorem dksX17_around_6 : cX17_around.data.toList.drop 141 = dktX17_around_6 := dk_seg dksX17_around_5 22 rfl rfl
theorem dksX17_around_7 : cX17_around.data.toList.drop 163 = dktX17_around_7 := dk_seg dksX17_around_6 22 rfl rfl
theorem dksX17_around_8 : cX17_around.data.toList.drop 185 = dktX17_around_8 := dk_seg dksX17_around_7 22 rfl rfl
theorem dksX17_around_9 : cX17_around.data.toList.drop 207 = dktX17_around_9 := dk_seg dksX17_around_8 22 rfl rfl
theorem dX17_around_0 : decode cX17_around 0 = .ok (.iload_n 1, 1) := dk_27 (dk_at dksX17_around_0 0 rfl rfl)
theorem dX17_around_1 : decode cX17_around 1 = .ok (.istore_n 2, 1) := dk_61 (dk_at dksX17_around_0 1 rfl rfl)
theorem dX17_around_2 : decode cX17_around 2 = .ok (.aload_n 0, 1) := dk_42 (dk_at dksX17_around_0 2 rfl rfl)
theorem dX17_around_3 : decode cX17_around 3 = .ok (.getfield 21, 3) := dk_180 0 21 (dk_at dksX17_around_0 3 rfl rfl)
theorem dX17_around_6 : decode cX17_around 6 = .ok (.astore_n 3, 1) := dk_78 (dk_at dksX17_around_0 6 rfl rfl)
theorem dX17_around_7 : decode cX17_around 7 = .ok (.aload_n 3, 1) := dk_45 (dk_at dksX17_around_0 7 rfl rfl)
theorem dX17_around_8 : decode cX17_around 8 = .ok (.arraylength, 1) := dk_190 (dk_at dksX17_around_0 8 rfl rfl)
theorem dX17_around_9 : decode cX17_around 9 = .ok (.istore 4, 2) := dk_54 4 (dk_at dksX17_around_0 9 rfl rfl)
theorem dX17_around_11 : decode cX17_around 11 = .ok (.iconst 0, 1) := dk_3 (dk_at dksX17_around_0 11 rfl rfl)
theorem dX17_around_12 : decode cX17_around 12 = .ok (.istore 5, 2) := dk_54 5 (dk_at dksX17_around_0 12 rfl rfl)
theorem dX17_around_14 : decode cX17_around 14 = .ok (.iload 5, 2) := dk_21 5 (dk_at dksX17_around_0 14 rfl rfl)
theorem dX17_around_16 : decode cX17_around 16 = .ok (.iload 4, 2) := dk_21 4 (dk_at dksX17_around_0 16 rfl rfl)
theorem dX17_around_18 : decode cX17_around 18 = .ok (.if_icmp .ge 201, 3) := dk_162 0 201 (dk_at dksX17_around_0 18 rfl rfl)
theorem dX17_around_21 : decode cX17_around 21 = .ok (.aload_n 3, 1) := dk_45 (dk_at dksX17_around_0 21 rfl rfl)
theorem dX17_around_22 : decode cX17_around 22 = .ok (.iload 5, 2) := dk_21 5 (dk_at dksX17_around_0 22 rfl rfl)
theorem dX17_around_24 : decode cX17_around 24 = .ok (.iaload, 1) := dk_46 (dk_at dksX17_around_1 0 rfl rfl)
theorem dX17_around_25 : decode cX17_around 25 = .ok (.istore 6, 2) := dk_54 6 (dk_at dksX17_around_1 1 rfl rfl)
theorem dX17_around_27 : decode cX17_around 27 = .ok (.aload_n 0, 1) := dk_42 (dk_at dksX17_around_1 3 rfl rfl)
theorem dX17_around_28 : decode cX17_around 28 = .ok (.getfield 3, 3) := dk_180 0 3 (dk_at dksX17_around_1 4 rfl rfl)
theorem dX17_around_31 : decode cX17_around 31 = .ok (.iload 6, 2) := dk_21 6 (dk_at dksX17_around_1 7 rfl rfl)
theorem dX17_around_33 : decode cX17_around 33 = .ok (.iload_n 1, 1) := dk_27 (dk_at dksX17_around_1 9 rfl rfl)
theorem dX17_around_34 : decode cX17_around 34 = .ok (.invokevirtual 113, 3) := dk_182 0 113 (dk_at dksX17_around_1 10 rfl rfl)
theorem dX17_around_37 : decode cX17_around 37 = .ok (.ifCond .eq 6, 3) := dk_153 0 6 (dk_at dksX17_around_1 13 rfl rfl)
theorem dX17_around_40 : decode cX17_around 40 = .ok (.goto 173, 3) := dk_167 0 173 (dk_at dksX17_around_1 16 rfl rfl)
theorem dX17_around_43 : decode cX17_around 43 = .ok (.iload_n 2, 1) := dk_28 (dk_at dksX17_around_1 19 rfl rfl)
theorem dX17_around_44 : decode cX17_around 44 = .ok (.iload_n 1, 1) := dk_27 (dk_at dksX17_around_1 20 rfl rfl)
theorem dX17_around_45 : decode cX17_around 45 = .ok (.if_icmp .ne 7, 3) := dk_160 0 7 (dk_at dksX17_around_1 21 rfl rfl)
theorem dX17_around_48 : decode cX17_around 48 = .ok (.iconst (-1), 1) := dk_2 (dk_at dksX17_around_2 0 rfl rfl)
theorem dX17_around_49 : decode cX17_around 49 = .ok (.goto 62, 3) := dk_167 0 62 (dk_at dksX17_around_2 1 rfl rfl)
theorem dX17_around_52 : decode cX17_around 52 = .ok (.aload_n 0, 1) := dk_42 (dk_at dksX17_around_2 4 rfl rfl)
theorem dX17_around_53 : decode cX17_around 53 = .ok (.getfield 3, 3) := dk_180 0 3 (dk_at dksX17_around_2 5 rfl rfl)
theorem dX17_around_56 : decode cX17_around 56 = .ok (.getfield 34, 3) := dk_180 0 34 (dk_at dksX17_around_2 8 rfl rfl)
theorem dX17_around_59 : decode cX17_around 59 = .ok (.iload_n 1, 1) := dk_27 (dk_at dksX17_around_2 11 rfl rfl)
theorem dX17_around_60 : decode cX17_around 60 = .ok (.iaload, 1) := dk_46 (dk_at dksX17_around_2 12 rfl rfl)
theorem dX17_around_61 : decode cX17_around 61 = .ok (.aload_n 0, 1) := dk_42 (dk_at dksX17_around_2 13 rfl rfl)
theorem dX17_around_62 : decode cX17_around 62 = .ok (.getfield 3, 3) := dk_180 0 3 (dk_at dksX17_around_2 14 rfl rfl)
theorem dX17_around_65 : decode cX17_around 65 = .ok (.getfield 39, 3) := dk_180 0 39 (dk_at dksX17_around_2 17 rfl rfl)
theorem dX17_around_68 : decode cX17_around 68 = .ok (.iload_n 1, 1) := dk_27 (dk_at dksX17_around_2 20 rfl rfl)
theorem dX17_around_69 : decode cX17_around 69 = .ok (.iaload, 1) := dk_46 (dk_at dksX17_around_2 21 rfl rfl)
theorem dX17_around_70 : decode cX17_around 70 = .ok (.aload_n 0, 1) := dk_42 (dk_at dksX17_around_2 22 rfl rfl)
theorem dX17_around_71 : decode cX17_around 71 = .ok (.getfield 3, 3) := dk_180 0 3 (dk_at dksX17_around_3 0 rfl rfl)
theorem dX17_around_74 : decode cX17_around 74 = .ok (.getfield 34, 3) := dk_180 0 34 (dk_at dksX17_around_3 3 rfl rfl)
theorem dX17_around_77 : decode cX17_around 77 = .ok (.iload_n 2, 1) := dk_28 (dk_at dksX17_around_3 6 rfl rfl)
theorem dX17_around_78 : decode cX17_around 78 = .ok (.iaload, 1) := dk_46 (dk_at dksX17_around_3 7 rfl rfl)
theorem dX17_around_79 : decode cX17_around 79 = .ok (.aload_n 0, 1) := dk_42 (dk_at dksX17_around_3 8 rfl rfl)
theorem dX17_around_80 : decode cX17_around 80 = .ok (.getfield 3, 3) := dk_180 0 3 (dk_at dksX17_around_3 9 rfl rfl)
theorem dX17_around_83 : decode cX17_around 83 = .ok (.getfield 39, 3) := dk_180 0 39 (dk_at dksX17_around_3 12 rfl rfl)
theorem dX17_around_86 : decode cX17_around 86 = .ok (.iload_n 2, 1) := dk_28 (dk_at dksX17_around_3 15 rfl rfl)
theorem dX17_around_87 : decode cX17_around 87 = .ok (.iaload, 1) := dk_46 (dk_at dksX17_around_3 16 rfl rfl)
theorem dX17_around_88 : decode cX17_around 88 = .ok (.aload_n 0, 1) := dk_42 (dk_at dksX17_around_3 17 rfl rfl)
theorem dX17_around_89 : decode cX17_around 89 = .ok (.getfield 3, 3) := dk_180 0 3 (dk_at dksX17_around_3 18 rfl rfl)
theorem dX17_around_92 : decode cX17_around 92 = .ok (.getfield 34, 3) := dk_180 0 34 (dk_at dksX17_around_3 21 rfl rfl)
theorem dX17_around_95 : decode cX17_around 95 = .ok (.iload 6, 2) := dk_21 6 (dk_at dksX17_around_4 0 rfl rfl)
theorem dX17_around_97 : decode cX17_around 97 = .ok (.iaload, 1) := dk_46 (dk_at dksX17_around_4 2 rfl rfl)
theorem dX17_around_98 : decode cX17_around 98 = .ok (.aload_n 0, 1) := dk_42 (dk_at dksX17_around_4 3 rfl rfl)
theorem dX17_around_99 : decode cX17_around 99 = .ok (.getfield 3, 3) := dk_180 0 3 (dk_at dksX17_around_4 4 rfl rfl)
theorem dX17_around_102 : decode cX17_around 102 = .ok (.getfield 39, 3) := dk_180 0 39 (dk_at dksX17_around_4 7 rfl rfl)
theorem dX17_around_105 : decode cX17_around 105 = .ok (.iload 6, 2) := dk_21 6 (dk_at dksX17_around_4 10 rfl rfl)
theorem dX17_around_107 : decode cX17_around 107 = .ok (.iaload, 1) := dk_46 (dk_at dksX17_around_4 12 rfl rfl)
theorem dX17_around_108 : decode cX17_around 108 = .ok (.invokestatic 52, 3) := dk_184 0 52 (dk_at dksX17_around_4 13 rfl rfl)
theorem dX17_around_111 : decode cX17_around 111 = .ok (.istore 7, 2) := dk_54 7 (dk_at dksX17_around_4 16 rfl rfl)
theorem dX17_around_113 : decode cX17_around 113 = .ok (.aload_n 0, 1) := dk_42 (dk_at dksX17_around_4 18 rfl rfl)
theorem dX17_around_114 : decode cX17_around 114 = .ok (.getfield 3, 3) := dk_180 0 3 (dk_at dksX17_around_4 19 rfl rfl)
theorem dX17_around_117 : decode cX17_around 117 = .ok (.iload 6, 2) := dk_21 6 (dk_at dksX17_around_4 22 rfl rfl)
theorem dX17_around_119 : decode cX17_around 119 = .ok (.aload_n 0, 1) := dk_42 (dk_at dksX17_around_5 0 rfl rfl)
theorem dX17_around_120 : decode cX17_around 120 = .ok (.getfield 3, 3) := dk_180 0 3 (dk_at dksX17_around_5 1 rfl rfl)
theorem dX17_around_123 : decode cX17_around 123 = .ok (.getfield 34, 3) := dk_180 0 34 (dk_at dksX17_around_5 4 rfl rfl)
theorem dX17_around_126 : decode cX17_around 126 = .ok (.iload_n 1, 1) := dk_27 (dk_at dksX17_around_5 7 rfl rfl)
theorem dX17_around_127 : decode cX17_around 127 = .ok (.iaload, 1) := dk_46 (dk_at dksX17_around_5 8 rfl rfl)
theorem dX17_around_128 : decode cX17_around 128 = .ok (.aload_n 0, 1) := dk_42 (dk_at dksX17_around_5 9 rfl rfl)
theorem dX17_around_129 : decode cX17_around 129 = .ok (.getfield 3, 3) := dk_180 0 3 (dk_at dksX17_around_5 10 rfl rfl)
theorem dX17_around_132 : decode cX17_around 132 = .ok (.getfield 39, 3) := dk_180 0 39 (dk_at dksX17_around_5 13 rfl rfl)
theorem dX17_around_135 : decode cX17_around 135 = .ok (.iload_n 1, 1) := dk_27 (dk_at dksX17_around_5 16 rfl rfl)
theorem dX17_around_136 : decode cX17_around 136 = .ok (.iaload, 1) := dk_46 (dk_at dksX17_around_5 17 rfl rfl)
theorem dX17_around_137 : decode cX17_around 137 = .ok (.invokevirtual 85, 3) := dk_182 0 85 (dk_at dksX17_around_5 18 rfl rfl)
theorem dX17_around_140 : decode cX17_around 140 = .ok (.aload_n 0, 1) := dk_42 (dk_at dksX17_around_5 21 rfl rfl)
theorem dX17_around_141 : decode cX17_around 141 = .ok (.getfield 3, 3) := dk_180 0 3 (dk_at dksX17_around_6 0 rfl rfl)
theorem dX17_around_144 : decode cX17_around 144 = .ok (.iload_n 2, 1) := dk_28 (dk_at dksX17_around_6 3 rfl rfl)
theorem dX17_around_145 : decode cX17_around 145 = .ok (.aload_n 0, 1) := dk_42 (dk_at dksX17_around_6 4 rfl rfl)
theorem dX17_around_146 : decode cX17_around 146 = .ok (.getfield 3, 3) := dk_180 0 3 (dk_at dksX17_around_6 5 rfl rfl)
theorem dX17_around_149 : decode cX17_around 149 = .ok (.getfield 34, 3) := dk_180 0 34 (dk_at dksX17_around_6 8 rfl rfl)
theorem dX17_around_152 : decode cX17_around 152 = .ok (.iload_n 1, 1) := dk_27 (dk_at dksX17_around_6 11 rfl rfl)
theorem dX17_around_153 : decode cX17_around 153 = .ok (.iaload, 1) := dk_46 (dk_at dksX17_around_6 12 rfl rfl)
theorem dX17_around_154 : decode cX17_around 154 = .ok (.aload_n 0, 1) := dk_42 (dk_at dksX17_around_6 13 rfl rfl)
theorem dX17_around_155 : decode cX17_around 155 = .ok (.getfield 3, 3) := dk_180 0 3 (dk_at dksX17_around_6 14 rfl rfl)
theorem dX17_around_158 : decode cX17_around 158 = .ok (.getfield 39, 3) := dk_180 0 39 (dk_at dksX17_around_6 17 rfl rfl)
theorem dX17_around_161 : decode cX17_around 161 = .ok (.iload_n 1, 1) := dk_27 (dk_at dksX17_around_6 20 rfl rfl)
theorem dX17_around_162 : decode cX17_around 162 = .ok (.iaload, 1) := dk_46 (dk_at dksX17_around_6 21 rfl rfl)
theorem dX17_around_163 : decode cX17_around 163 = .ok (.invokevirtual 85, 3) := dk_182 0 85 (dk_at dksX17_around_7 0 rfl rfl)
theorem dX17_around_166 : decode cX17_around 166 = .ok (.if_icmp .gt 22, 3) := dk_163 0 22 (dk_at dksX17_around_7 3 rfl rfl)
theorem dX17_around_169 : decode cX17_around 169 = .ok (.aload_n 0, 1) := dk_42 (dk_at dksX17_around_7 6 rfl rfl)
theorem dX17_around_170 : decode cX17_around 170 = .ok (.getfield 3, 3) := dk_180 0 3 (dk_at dksX17_around_7 7 rfl rfl)
theorem dX17_around_173 : decode cX17_around 173 = .ok (.iload 6, 2) := dk_21 6 (dk_at dksX17_around_7 10 rfl rfl)
theorem dX17_around_175 : decode cX17_around 175 = .ok (.iload_n 2, 1) := dk_28 (dk_at dksX17_around_7 12 rfl rfl)
theorem dX17_around_176 : decode cX17_around 176 = .ok (.invokevirtual 113, 3) := dk_182 0 113 (dk_at dksX17_around_7 13 rfl rfl)
theorem dX17_around_179 : decode cX17_around 179 = .ok (.ifCond .eq 13, 3) := dk_153 0 13 (dk_at dksX17_around_7 16 rfl rfl)
theorem dX17_around_182 : decode cX17_around 182 = .ok (.iload 6, 2) := dk_21 6 (dk_at dksX17_around_7 19 rfl rfl)
theorem dX17_around_184 : decode cX17_around 184 = .ok (.iload_n 2, 1) := dk_28 (dk_at dksX17_around_7 21 rfl rfl)
theorem dX17_around_185 : decode cX17_around 185 = .ok (.if_icmp .ge 7, 3) := dk_162 0 7 (dk_at dksX17_around_8 0 rfl rfl)
theorem dX17_around_188 : decode cX17_around 188 = .ok (.iconst 1, 1) := dk_4 (dk_at dksX17_around_8 3 rfl rfl)
theorem dX17_around_189 : decode cX17_around 189 = .ok (.goto 4, 3) := dk_167 0 4 (dk_at dksX17_around_8 4 rfl rfl)
theorem dX17_around_192 : decode cX17_around 192 = .ok (.iconst 0, 1) := dk_3 (dk_at dksX17_around_8 7 rfl rfl)
theorem dX17_around_193 : decode cX17_around 193 = .ok (.istore 8, 2) := dk_54 8 (dk_at dksX17_around_8 8 rfl rfl)
theorem dX17_around_195 : decode cX17_around 195 = .ok (.iload 7, 2) := dk_21 7 (dk_at dksX17_around_8 10 rfl rfl)
theorem dX17_around_197 : decode cX17_around 197 = .ok (.ifCond .lt 13, 3) := dk_155 0 13 (dk_at dksX17_around_8 12 rfl rfl)
theorem dX17_around_200 : decode cX17_around 200 = .ok (.iload 7, 2) := dk_21 7 (dk_at dksX17_around_8 15 rfl rfl)
theorem dX17_around_202 : decode cX17_around 202 = .ok (.ifCond .ne 11, 3) := dk_154 0 11 (dk_at dksX17_around_8 17 rfl rfl)
theorem dX17_around_205 : decode cX17_around 205 = .ok (.iload 8, 2) := dk_21 8 (dk_at dksX17_around_8 20 rfl rfl)
theorem dX17_around_207 : decode cX17_around 207 = .ok (.ifCond .eq 6, 3) := dk_153 0 6 (dk_at dksX17_around_9 0 rfl rfl)
theorem dX17_around_210 : decode cX17_around 210 = .ok (.iload 6, 2) := dk_21 6 (dk_at dksX17_around_9 3 rfl rfl)
theorem dX17_around_212 : decode cX17_around 212 = .ok (.istore_n 2, 1) := dk_61 (dk_at dksX17_around_9 5 rfl rfl)
theorem dX17_around_213 : decode cX17_around 213 = .ok (.iinc 5 1, 3) := dk_132 5 1 (dk_at dksX17_around_9 6 rfl rfl)
theorem dX17_around_216 : decode cX17_around 216 = .ok (.goto (-202), 3) := dk_167 255 54 (dk_at dksX17_around_9 9 rfl rfl)
theorem dX17_around_219 : decode cX17_around 219 = .ok (.iload_n 2, 1) := dk_28 (dk_at dksX17_around_9 12 rfl rfl)
theorem dX17_around_220 : decode cX17_around 220 = .ok (.ireturn, 1) := dk_172 (dk_at dksX17_around_9 13 rfl rfl)
abbrev cX17_hullArea : ByteArray := prog_29_method_17_code
def yX17_hullArea : MethodName := ⟨RX17, "hullArea", "()I"⟩
def dkwX17_hullArea_5 : List UInt8 := [132, 3, 1, 167, 255, 149, 28, 172]
abbrev dktX17_hullArea_5 : List UInt8 := dkwX17_hullArea_5 ++ []
def dkwX17_hullArea_4 : List UInt8 := [180, 0, 3, 180, 0, 34, 21, 5, 46, 42, 180, 0, 3, 180, 0, 39, 21, 4, 46, 104, 100, 96, 61]
abbrev dktX17_hullArea_4 : List UInt8 := dkwX17_hullArea_4 ++ dktX17_hullArea_5
def dkwX17_hullArea_3 : List UInt8 := [42, 180, 0, 3, 180, 0, 34, 21, 4, 46, 42, 180, 0, 3, 180, 0, 39, 21, 5, 46, 104, 42]
abbrev dktX17_hullArea_3 : List UInt8 := dkwX17_hullArea_3 ++ dktX17_hullArea_4
def dkwX17_hullArea_2 : List UInt8 := [160, 0, 7, 3, 167, 0, 6, 29, 4, 96, 185, 0, 25, 2, 0, 192, 0, 29, 182, 0, 31, 54, 5, 28]
abbrev dktX17_hullArea_2 : List UInt8 := dkwX17_hullArea_2 ++ dktX17_hullArea_3
def dkwX17_hullArea_1 : List UInt8 := [185, 0, 25, 2, 0, 192, 0, 29, 182, 0, 31, 54, 4, 43, 29, 4, 96, 43, 185, 0, 15, 1, 0]
abbrev dktX17_hullArea_1 : List UInt8 := dkwX17_hullArea_1 ++ dktX17_hullArea_2
def dkwX17_hullArea_0 : List UInt8 := [42, 182, 0, 116, 76, 3, 61, 3, 62, 29, 43, 185, 0, 15, 1, 0, 162, 0, 103, 43, 29]
abbrev dktX17_hullArea_0 : List UInt8 := dkwX17_hullArea_0 ++ dktX17_hullArea_1
theorem dksX17_hullArea_0 : cX17_hullArea.data.toList.drop 0 = dktX17_hullArea_0 := by decide +kernel
theorem dksX17_hullArea_1 : cX17_hullArea.data.toList.drop 21 = dktX17_hullArea_1 := dk_seg dksX17_hullArea_0 21 rfl rfl
theorem dksX17_hullArea_2 : cX17_hullArea.data.toList.drop 44 = dktX17_hullArea_2 := dk_seg dksX17_hullArea_1 23 rfl rfl
theorem dksX17_hullArea_3 : cX17_hullArea.data.toList.drop 68 = dktX17_hullArea_3 := dk_seg dksX17_hullArea_2 24 rfl rfl
theorem dksX17_hullArea_4 : cX17_hullArea.data.toList.drop 90 = dktX17_hullArea_4 := dk_seg dksX17_hullArea_3 22 rfl rfl
theorem dksX17_hullArea_5 : cX17_hullArea.data.toList.drop 113 = dktX17_hullArea_5 := dk_seg dksX17_hullArea_4 23 rfl rfl
theorem dX17_hullArea_0 : decode cX17_hullArea 0 = .ok (.aload_n 0, 1) := dk_42 (dk_at dksX17_hullArea_0 0 rfl rfl)
theorem dX17_hullArea_1 : decode cX17_hullArea 1 = .ok (.invokevirtual 116, 3) := dk_182 0 116 (dk_at dksX17_hullArea_0 1 rfl rfl)
theorem dX17_hullArea_4 : decode cX17_hullArea 4 = .ok (.astore_n 1, 1) := dk_76 (dk_at dksX17_hullArea_0 4 rfl rfl)
theorem dX17_hullArea_5 : decode cX17_hullArea 5 = .ok (.iconst 0, 1) := dk_3 (dk_at dksX17_hullArea_0 5 rfl rfl)
theorem dX17_hullArea_6 : decode cX17_hullArea 6 = .ok (.istore_n 2, 1) := dk_61 (dk_at dksX17_hullArea_0 6 rfl rfl)
theorem dX17_hullArea_7 : decode cX17_hullArea 7 = .ok (.iconst 0, 1) := dk_3 (dk_at dksX17_hullArea_0 7 rfl rfl)
theorem dX17_hullArea_8 : decode cX17_hullArea 8 = .ok (.istore_n 3, 1) := dk_62 (dk_at dksX17_hullArea_0 8 rfl rfl)
theorem dX17_hullArea_9 : decode cX17_hullArea 9 = .ok (.iload_n 3, 1) := dk_29 (dk_at dksX17_hullArea_0 9 rfl rfl)
theorem dX17_hullArea_10 : decode cX17_hullArea 10 = .ok (.aload_n 1, 1) := dk_43 (dk_at dksX17_hullArea_0 10 rfl rfl)
theorem dX17_hullArea_11 : decode cX17_hullArea 11 = .ok (.invokeinterface 15 1, 5) := by decide +kernel
theorem dX17_hullArea_16 : decode cX17_hullArea 16 = .ok (.if_icmp .ge 103, 3) := dk_162 0 103 (dk_at dksX17_hullArea_0 16 rfl rfl)
theorem dX17_hullArea_19 : decode cX17_hullArea 19 = .ok (.aload_n 1, 1) := dk_43 (dk_at dksX17_hullArea_0 19 rfl rfl)
theorem dX17_hullArea_20 : decode cX17_hullArea 20 = .ok (.iload_n 3, 1) := dk_29 (dk_at dksX17_hullArea_0 20 rfl rfl)
theorem dX17_hullArea_21 : decode cX17_hullArea 21 = .ok (.invokeinterface 25 2, 5) := by decide +kernel
theorem dX17_hullArea_26 : decode cX17_hullArea 26 = .ok (.checkcast 29, 3) := dk_192 0 29 (dk_at dksX17_hullArea_1 5 rfl rfl)
theorem dX17_hullArea_29 : decode cX17_hullArea 29 = .ok (.invokevirtual 31, 3) := dk_182 0 31 (dk_at dksX17_hullArea_1 8 rfl rfl)
theorem dX17_hullArea_32 : decode cX17_hullArea 32 = .ok (.istore 4, 2) := dk_54 4 (dk_at dksX17_hullArea_1 11 rfl rfl)
theorem dX17_hullArea_34 : decode cX17_hullArea 34 = .ok (.aload_n 1, 1) := dk_43 (dk_at dksX17_hullArea_1 13 rfl rfl)
theorem dX17_hullArea_35 : decode cX17_hullArea 35 = .ok (.iload_n 3, 1) := dk_29 (dk_at dksX17_hullArea_1 14 rfl rfl)
theorem dX17_hullArea_36 : decode cX17_hullArea 36 = .ok (.iconst 1, 1) := dk_4 (dk_at dksX17_hullArea_1 15 rfl rfl)
theorem dX17_hullArea_37 : decode cX17_hullArea 37 = .ok (.iadd, 1) := dk_96 (dk_at dksX17_hullArea_1 16 rfl rfl)
theorem dX17_hullArea_38 : decode cX17_hullArea 38 = .ok (.aload_n 1, 1) := dk_43 (dk_at dksX17_hullArea_1 17 rfl rfl)
theorem dX17_hullArea_39 : decode cX17_hullArea 39 = .ok (.invokeinterface 15 1, 5) := by decide +kernel
theorem dX17_hullArea_44 : decode cX17_hullArea 44 = .ok (.if_icmp .ne 7, 3) := dk_160 0 7 (dk_at dksX17_hullArea_2 0 rfl rfl)
theorem dX17_hullArea_47 : decode cX17_hullArea 47 = .ok (.iconst 0, 1) := dk_3 (dk_at dksX17_hullArea_2 3 rfl rfl)
theorem dX17_hullArea_48 : decode cX17_hullArea 48 = .ok (.goto 6, 3) := dk_167 0 6 (dk_at dksX17_hullArea_2 4 rfl rfl)
theorem dX17_hullArea_51 : decode cX17_hullArea 51 = .ok (.iload_n 3, 1) := dk_29 (dk_at dksX17_hullArea_2 7 rfl rfl)
theorem dX17_hullArea_52 : decode cX17_hullArea 52 = .ok (.iconst 1, 1) := dk_4 (dk_at dksX17_hullArea_2 8 rfl rfl)
theorem dX17_hullArea_53 : decode cX17_hullArea 53 = .ok (.iadd, 1) := dk_96 (dk_at dksX17_hullArea_2 9 rfl rfl)
theorem dX17_hullArea_54 : decode cX17_hullArea 54 = .ok (.invokeinterface 25 2, 5) := by decide +kernel
theorem dX17_hullArea_59 : decode cX17_hullArea 59 = .ok (.checkcast 29, 3) := dk_192 0 29 (dk_at dksX17_hullArea_2 15 rfl rfl)
theorem dX17_hullArea_62 : decode cX17_hullArea 62 = .ok (.invokevirtual 31, 3) := dk_182 0 31 (dk_at dksX17_hullArea_2 18 rfl rfl)
theorem dX17_hullArea_65 : decode cX17_hullArea 65 = .ok (.istore 5, 2) := dk_54 5 (dk_at dksX17_hullArea_2 21 rfl rfl)
theorem dX17_hullArea_67 : decode cX17_hullArea 67 = .ok (.iload_n 2, 1) := dk_28 (dk_at dksX17_hullArea_2 23 rfl rfl)
theorem dX17_hullArea_68 : decode cX17_hullArea 68 = .ok (.aload_n 0, 1) := dk_42 (dk_at dksX17_hullArea_3 0 rfl rfl)
theorem dX17_hullArea_69 : decode cX17_hullArea 69 = .ok (.getfield 3, 3) := dk_180 0 3 (dk_at dksX17_hullArea_3 1 rfl rfl)
theorem dX17_hullArea_72 : decode cX17_hullArea 72 = .ok (.getfield 34, 3) := dk_180 0 34 (dk_at dksX17_hullArea_3 4 rfl rfl)
theorem dX17_hullArea_75 : decode cX17_hullArea 75 = .ok (.iload 4, 2) := dk_21 4 (dk_at dksX17_hullArea_3 7 rfl rfl)
theorem dX17_hullArea_77 : decode cX17_hullArea 77 = .ok (.iaload, 1) := dk_46 (dk_at dksX17_hullArea_3 9 rfl rfl)
theorem dX17_hullArea_78 : decode cX17_hullArea 78 = .ok (.aload_n 0, 1) := dk_42 (dk_at dksX17_hullArea_3 10 rfl rfl)
theorem dX17_hullArea_79 : decode cX17_hullArea 79 = .ok (.getfield 3, 3) := dk_180 0 3 (dk_at dksX17_hullArea_3 11 rfl rfl)
theorem dX17_hullArea_82 : decode cX17_hullArea 82 = .ok (.getfield 39, 3) := dk_180 0 39 (dk_at dksX17_hullArea_3 14 rfl rfl)
theorem dX17_hullArea_85 : decode cX17_hullArea 85 = .ok (.iload 5, 2) := dk_21 5 (dk_at dksX17_hullArea_3 17 rfl rfl)
theorem dX17_hullArea_87 : decode cX17_hullArea 87 = .ok (.iaload, 1) := dk_46 (dk_at dksX17_hullArea_3 19 rfl rfl)
theorem dX17_hullArea_88 : decode cX17_hullArea 88 = .ok (.imul, 1) := dk_104 (dk_at dksX17_hullArea_3 20 rfl rfl)
theorem dX17_hullArea_89 : decode cX17_hullArea 89 = .ok (.aload_n 0, 1) := dk_42 (dk_at dksX17_hullArea_3 21 rfl rfl)
theorem dX17_hullArea_90 : decode cX17_hullArea 90 = .ok (.getfield 3, 3) := dk_180 0 3 (dk_at dksX17_hullArea_4 0 rfl rfl)
theorem dX17_hullArea_93 : decode cX17_hullArea 93 = .ok (.getfield 34, 3) := dk_180 0 34 (dk_at dksX17_hullArea_4 3 rfl rfl)
theorem dX17_hullArea_96 : decode cX17_hullArea 96 = .ok (.iload 5, 2) := dk_21 5 (dk_at dksX17_hullArea_4 6 rfl rfl)
theorem dX17_hullArea_98 : decode cX17_hullArea 98 = .ok (.iaload, 1) := dk_46 (dk_at dksX17_hullArea_4 8 rfl rfl)
theorem dX17_hullArea_99 : decode cX17_hullArea 99 = .ok (.aload_n 0, 1) := dk_42 (dk_at dksX17_hullArea_4 9 rfl rfl)
theorem dX17_hullArea_100 : decode cX17_hullArea 100 = .ok (.getfield 3, 3) := dk_180 0 3 (dk_at dksX17_hullArea_4 10 rfl rfl)
theorem dX17_hullArea_103 : decode cX17_hullArea 103 = .ok (.getfield 39, 3) := dk_180 0 39 (dk_at dksX17_hullArea_4 13 rfl rfl)
theorem dX17_hullArea_106 : decode cX17_hullArea 106 = .ok (.iload 4, 2) := dk_21 4 (dk_at dksX17_hullArea_4 16 rfl rfl)
theorem dX17_hullArea_108 : decode cX17_hullArea 108 = .ok (.iaload, 1) := dk_46 (dk_at dksX17_hullArea_4 18 rfl rfl)
theorem dX17_hullArea_109 : decode cX17_hullArea 109 = .ok (.imul, 1) := dk_104 (dk_at dksX17_hullArea_4 19 rfl rfl)
theorem dX17_hullArea_110 : decode cX17_hullArea 110 = .ok (.isub, 1) := dk_100 (dk_at dksX17_hullArea_4 20 rfl rfl)
theorem dX17_hullArea_111 : decode cX17_hullArea 111 = .ok (.iadd, 1) := dk_96 (dk_at dksX17_hullArea_4 21 rfl rfl)
theorem dX17_hullArea_112 : decode cX17_hullArea 112 = .ok (.istore_n 2, 1) := dk_61 (dk_at dksX17_hullArea_4 22 rfl rfl)
theorem dX17_hullArea_113 : decode cX17_hullArea 113 = .ok (.iinc 3 1, 3) := dk_132 3 1 (dk_at dksX17_hullArea_5 0 rfl rfl)
theorem dX17_hullArea_116 : decode cX17_hullArea 116 = .ok (.goto (-107), 3) := dk_167 255 149 (dk_at dksX17_hullArea_5 3 rfl rfl)
theorem dX17_hullArea_119 : decode cX17_hullArea 119 = .ok (.iload_n 2, 1) := dk_28 (dk_at dksX17_hullArea_5 6 rfl rfl)
theorem dX17_hullArea_120 : decode cX17_hullArea 120 = .ok (.ireturn, 1) := dk_172 (dk_at dksX17_hullArea_5 7 rfl rfl)
abbrev cX17_widest : ByteArray := prog_29_method_14_code
def yX17_widest : MethodName := ⟨RX17, "widest", "()I"⟩
def dkwX17_widest_2 : List UInt8 := [184, 0, 88, 60, 132, 3, 1, 167, 255, 220, 132, 2, 1, 167, 255, 203, 27, 172]
abbrev dktX17_widest_2 : List UInt8 := dkwX17_widest_2 ++ []
def dkwX17_widest_1 : List UInt8 := [180, 0, 3, 42, 180, 0, 21, 28, 46, 42, 29, 182, 0, 42, 42, 29, 182, 0, 49, 182, 0, 85]
abbrev dktX17_widest_1 : List UInt8 := dkwX17_widest_1 ++ dktX17_widest_2
def dkwX17_widest_0 : List UInt8 := [3, 60, 3, 61, 28, 42, 180, 0, 21, 190, 162, 0, 50, 3, 62, 29, 28, 162, 0, 37, 27, 42]
abbrev dktX17_widest_0 : List UInt8 := dkwX17_widest_0 ++ dktX17_widest_1
theorem dksX17_widest_0 : cX17_widest.data.toList.drop 0 = dktX17_widest_0 := by decide +kernel
theorem dksX17_widest_1 : cX17_widest.data.toList.drop 22 = dktX17_widest_1 := dk_seg dksX17_widest_0 22 rfl rfl
theorem dksX17_widest_2 : cX17_widest.data.toList.drop 44 = dktX17_widest_2 := dk_seg dksX17_widest_1 22 rfl rfl
theorem dX17_widest_0 : decode cX17_widest 0 = .ok (.iconst 0, 1) := dk_3 (dk_at dksX17_widest_0 0 rfl rfl)
theorem dX17_widest_1 : decode cX17_widest 1 = .ok (.istore_n 1, 1) := dk_60 (dk_at dksX17_widest_0 1 rfl rfl)
theorem dX17_widest_2 : decode cX17_widest 2 = .ok (.iconst 0, 1) := dk_3 (dk_at dksX17_widest_0 2 rfl rfl)
theorem dX17_widest_3 : decode cX17_widest 3 = .ok (.istore_n 2, 1) := dk_61 (dk_at dksX17_widest_0 3 rfl rfl)
theorem dX17_widest_4 : decode cX17_widest 4 = .ok (.iload_n 2, 1) := dk_28 (dk_at dksX17_widest_0 4 rfl rfl)
theorem dX17_widest_5 : decode cX17_widest 5 = .ok (.aload_n 0, 1) := dk_42 (dk_at dksX17_widest_0 5 rfl rfl)
theorem dX17_widest_6 : decode cX17_widest 6 = .ok (.getfield 21, 3) := dk_180 0 21 (dk_at dksX17_widest_0 6 rfl rfl)
theorem dX17_widest_9 : decode cX17_widest 9 = .ok (.arraylength, 1) := dk_190 (dk_at dksX17_widest_0 9 rfl rfl)
theorem dX17_widest_10 : decode cX17_widest 10 = .ok (.if_icmp .ge 50, 3) := dk_162 0 50 (dk_at dksX17_widest_0 10 rfl rfl)
theorem dX17_widest_13 : decode cX17_widest 13 = .ok (.iconst 0, 1) := dk_3 (dk_at dksX17_widest_0 13 rfl rfl)
theorem dX17_widest_14 : decode cX17_widest 14 = .ok (.istore_n 3, 1) := dk_62 (dk_at dksX17_widest_0 14 rfl rfl)
theorem dX17_widest_15 : decode cX17_widest 15 = .ok (.iload_n 3, 1) := dk_29 (dk_at dksX17_widest_0 15 rfl rfl)
theorem dX17_widest_16 : decode cX17_widest 16 = .ok (.iload_n 2, 1) := dk_28 (dk_at dksX17_widest_0 16 rfl rfl)
theorem dX17_widest_17 : decode cX17_widest 17 = .ok (.if_icmp .ge 37, 3) := dk_162 0 37 (dk_at dksX17_widest_0 17 rfl rfl)
theorem dX17_widest_20 : decode cX17_widest 20 = .ok (.iload_n 1, 1) := dk_27 (dk_at dksX17_widest_0 20 rfl rfl)
theorem dX17_widest_21 : decode cX17_widest 21 = .ok (.aload_n 0, 1) := dk_42 (dk_at dksX17_widest_0 21 rfl rfl)
theorem dX17_widest_22 : decode cX17_widest 22 = .ok (.getfield 3, 3) := dk_180 0 3 (dk_at dksX17_widest_1 0 rfl rfl)
theorem dX17_widest_25 : decode cX17_widest 25 = .ok (.aload_n 0, 1) := dk_42 (dk_at dksX17_widest_1 3 rfl rfl)
theorem dX17_widest_26 : decode cX17_widest 26 = .ok (.getfield 21, 3) := dk_180 0 21 (dk_at dksX17_widest_1 4 rfl rfl)
theorem dX17_widest_29 : decode cX17_widest 29 = .ok (.iload_n 2, 1) := dk_28 (dk_at dksX17_widest_1 7 rfl rfl)
theorem dX17_widest_30 : decode cX17_widest 30 = .ok (.iaload, 1) := dk_46 (dk_at dksX17_widest_1 8 rfl rfl)
theorem dX17_widest_31 : decode cX17_widest 31 = .ok (.aload_n 0, 1) := dk_42 (dk_at dksX17_widest_1 9 rfl rfl)
theorem dX17_widest_32 : decode cX17_widest 32 = .ok (.iload_n 3, 1) := dk_29 (dk_at dksX17_widest_1 10 rfl rfl)
theorem dX17_widest_33 : decode cX17_widest 33 = .ok (.invokevirtual 42, 3) := dk_182 0 42 (dk_at dksX17_widest_1 11 rfl rfl)
theorem dX17_widest_36 : decode cX17_widest 36 = .ok (.aload_n 0, 1) := dk_42 (dk_at dksX17_widest_1 14 rfl rfl)
theorem dX17_widest_37 : decode cX17_widest 37 = .ok (.iload_n 3, 1) := dk_29 (dk_at dksX17_widest_1 15 rfl rfl)
theorem dX17_widest_38 : decode cX17_widest 38 = .ok (.invokevirtual 49, 3) := dk_182 0 49 (dk_at dksX17_widest_1 16 rfl rfl)
theorem dX17_widest_41 : decode cX17_widest 41 = .ok (.invokevirtual 85, 3) := dk_182 0 85 (dk_at dksX17_widest_1 19 rfl rfl)
theorem dX17_widest_44 : decode cX17_widest 44 = .ok (.invokestatic 88, 3) := dk_184 0 88 (dk_at dksX17_widest_2 0 rfl rfl)
theorem dX17_widest_47 : decode cX17_widest 47 = .ok (.istore_n 1, 1) := dk_60 (dk_at dksX17_widest_2 3 rfl rfl)
theorem dX17_widest_48 : decode cX17_widest 48 = .ok (.iinc 3 1, 3) := dk_132 3 1 (dk_at dksX17_widest_2 4 rfl rfl)
theorem dX17_widest_51 : decode cX17_widest 51 = .ok (.goto (-36), 3) := dk_167 255 220 (dk_at dksX17_widest_2 7 rfl rfl)
theorem dX17_widest_54 : decode cX17_widest 54 = .ok (.iinc 2 1, 3) := dk_132 2 1 (dk_at dksX17_widest_2 10 rfl rfl)
theorem dX17_widest_57 : decode cX17_widest 57 = .ok (.goto (-53), 3) := dk_167 255 203 (dk_at dksX17_widest_2 13 rfl rfl)
theorem dX17_widest_60 : decode cX17_widest 60 = .ok (.iload_n 1, 1) := dk_27 (dk_at dksX17_widest_2 16 rfl rfl)
theorem dX17_widest_61 : decode cX17_widest 61 = .ok (.ireturn, 1) := dk_172 (dk_at dksX17_widest_2 17 rfl rfl)
theorem q165 : (Jvm.Cond.initialized "GridTable$Table$Shape") ∈ lw_all := lw_g (lw_at lw_m1 54 rfl) rfl
theorem q243 : (Jvm.Cond.fieldLinkNest "GridTable$Table$Shape" (34 : Nat) "GridTable$Table" "xs" "[I" "GridTable") ∈ lw_tbl := lw_at lw_m1 132 rfl
theorem q251 : (Jvm.Cond.fieldLinkNest "GridTable$Table$Shape" (39 : Nat) "GridTable$Table" "ys" "[I" "GridTable") ∈ lw_tbl := lw_at lw_m1 140 rfl
theorem q828 : (Jvm.Cond.selects "GridTable$Table$Shape" ({ cls := "java/lang/Object", name := "getClass", desc := "()Ljava/lang/Class;" } : Jvm.MethodName) ({ cls := "java/lang/Object", name := "getClass", desc := "()Ljava/lang/Class;" } : Jvm.MethodName)) ∈ lw_all := lw_g (lw_at lw_m3 237 rfl) rfl
theorem q1057 : (Jvm.Cond.selects "GridTable$Table$Shape" ({ cls := "java/lang/Object", name := "hashCode", desc := "()I" } : Jvm.MethodName) ({ cls := "java/lang/Object", name := "hashCode", desc := "()I" } : Jvm.MethodName)) ∈ lw_all := lw_g (lw_at lw_m4 226 rfl) rfl
theorem q1169 : (Jvm.Cond.selects "GridTable$Table$Shape" ({ cls := "java/lang/Object", name := "equals", desc := "(Ljava/lang/Object;)Z" } : Jvm.MethodName) ({ cls := "java/lang/Object", name := "equals", desc := "(Ljava/lang/Object;)Z" } : Jvm.MethodName)) ∈ lw_all := lw_g (lw_at lw_m5 98 rfl) rfl
theorem q1710 : (Jvm.Cond.instanceMethod ({ cls := "GridTable$Table$Shape", name := "area", desc := "()I" } : Jvm.MethodName)) ∈ lw_all := lw_g (lw_at lw_m7 159 rfl) rfl
theorem q1711 : (Jvm.Cond.selects "GridTable$Table$Shape" ({ cls := "GridTable$Table$Shape", name := "area", desc := "()I" } : Jvm.MethodName) ({ cls := "GridTable$Table$Shape", name := "area", desc := "()I" } : Jvm.MethodName)) ∈ lw_all := lw_g (lw_at lw_m7 160 rfl) rfl
theorem q1712 : (Jvm.Cond.code ({ cls := "GridTable$Table$Shape", name := "area", desc := "()I" } : Jvm.MethodName) prog_29_method_5_code (3 : Nat) (Option.some Jvm.ClassFile.FieldType.int)) ∈ lw_all := lw_g (lw_at lw_m7 161 rfl) rfl
theorem q1713 : (Jvm.Cond.methodLink "GridTable$Table$Shape" (42 : Nat) ({ cls := "GridTable$Table$Shape", name := "x", desc := "(I)I" } : Jvm.MethodName)) ∈ lw_all := lw_g (lw_at lw_m7 162 rfl) rfl
theorem q1714 : (Jvm.Cond.instanceMethod ({ cls := "GridTable$Table$Shape", name := "x", desc := "(I)I" } : Jvm.MethodName)) ∈ lw_all := lw_g (lw_at lw_m7 163 rfl) rfl
theorem q1715 : (Jvm.Cond.selects "GridTable$Table$Shape" ({ cls := "GridTable$Table$Shape", name := "x", desc := "(I)I" } : Jvm.MethodName) ({ cls := "GridTable$Table$Shape", name := "x", desc := "(I)I" } : Jvm.MethodName)) ∈ lw_all := lw_g (lw_at lw_m7 164 rfl) rfl
theorem q1716 : (Jvm.Cond.code ({ cls := "GridTable$Table$Shape", name := "x", desc := "(I)I" } : Jvm.MethodName) prog_29_method_3_code (2 : Nat) (Option.some Jvm.ClassFile.FieldType.int)) ∈ lw_all := lw_g (lw_at lw_m7 165 rfl) rfl
theorem q1717 : (Jvm.Cond.methodLink "GridTable$Table$Shape" (46 : Nat) ({ cls := "GridTable$Table$Shape", name := "next", desc := "(I)I" } : Jvm.MethodName)) ∈ lw_all := lw_g (lw_at lw_m7 166 rfl) rfl
theorem q1718 : (Jvm.Cond.instanceMethod ({ cls := "GridTable$Table$Shape", name := "next", desc := "(I)I" } : Jvm.MethodName)) ∈ lw_all := lw_g (lw_at lw_m7 167 rfl) rfl
theorem q1719 : (Jvm.Cond.selects "GridTable$Table$Shape" ({ cls := "GridTable$Table$Shape", name := "next", desc := "(I)I" } : Jvm.MethodName) ({ cls := "GridTable$Table$Shape", name := "next", desc := "(I)I" } : Jvm.MethodName)) ∈ lw_all := lw_g (lw_at lw_m7 168 rfl) rfl
theorem q1720 : (Jvm.Cond.code ({ cls := "GridTable$Table$Shape", name := "next", desc := "(I)I" } : Jvm.MethodName) prog_29_method_2_code (2 : Nat) (Option.some Jvm.ClassFile.FieldType.int)) ∈ lw_all := lw_g (lw_at lw_m7 169 rfl) rfl
theorem q1721 : (Jvm.Cond.methodLink "GridTable$Table$Shape" (49 : Nat) ({ cls := "GridTable$Table$Shape", name := "y", desc := "(I)I" } : Jvm.MethodName)) ∈ lw_all := lw_g (lw_at lw_m7 170 rfl) rfl
theorem q1722 : (Jvm.Cond.instanceMethod ({ cls := "GridTable$Table$Shape", name := "y", desc := "(I)I" } : Jvm.MethodName)) ∈ lw_all := lw_g (lw_at lw_m7 171 rfl) rfl
theorem q1723 : (Jvm.Cond.selects "GridTable$Table$Shape" ({ cls := "GridTable$Table$Shape", name := "y", desc := "(I)I" } : Jvm.MethodName) ({ cls := "GridTable$Table$Shape", name := "y", desc := "(I)I" } : Jvm.MethodName)) ∈ lw_all := lw_g (lw_at lw_m7 172 rfl) rfl
theorem q1724 : (Jvm.Cond.code ({ cls := "GridTable$Table$Shape", name := "y", desc := "(I)I" } : Jvm.MethodName) prog_29_method_4_code (2 : Nat) (Option.some Jvm.ClassFile.FieldType.int)) ∈ lw_all := lw_g (lw_at lw_m7 173 rfl) rfl
theorem q1734 : (Jvm.Cond.instanceMethod ({ cls := "GridTable$Table$Shape", name := "crosses", desc := "(LGridTable$Table$Shape;)I" } : Jvm.MethodName)) ∈ lw_all := lw_g (lw_at lw_m7 183 rfl) rfl
theorem q1735 : (Jvm.Cond.selects "GridTable$Table$Shape" ({ cls := "GridTable$Table$Shape", name := "crosses", desc := "(LGridTable$Table$Shape;)I" } : Jvm.MethodName) ({ cls := "GridTable$Table$Shape", name := "crosses", desc := "(LGridTable$Table$Shape;)I" } : Jvm.MethodName)) ∈ lw_all := lw_g (lw_at lw_m7 184 rfl) rfl
theorem q1736 : (Jvm.Cond.code ({ cls := "GridTable$Table$Shape", name := "crosses", desc := "(LGridTable$Table$Shape;)I" } : Jvm.MethodName) prog_29_method_8_code (5 : Nat) (Option.some Jvm.ClassFile.FieldType.int)) ∈ lw_all := lw_g (lw_at lw_m7 185 rfl) rfl
theorem q1737 : (Jvm.Cond.methodLink "GridTable$Table$Shape" (62 : Nat) ({ cls := "GridTable$Table$Shape", name := "parts", desc := "(ILGridTable$Table$Shape;I)Z" } : Jvm.MethodName)) ∈ lw_all := lw_g (lw_at lw_m7 186 rfl) rfl
theorem q1738 : (Jvm.Cond.privateMethod ({ cls := "GridTable$Table$Shape", name := "parts", desc := "(ILGridTable$Table$Shape;I)Z" } : Jvm.MethodName)) ∈ lw_tbl := lw_at lw_m7 187 rfl
theorem q1739 : (Jvm.Cond.instanceMethod ({ cls := "GridTable$Table$Shape", name := "parts", desc := "(ILGridTable$Table$Shape;I)Z" } : Jvm.MethodName)) ∈ lw_all := lw_g (lw_at lw_m7 188 rfl) rfl
theorem q1740 : (Jvm.Cond.instantiable "GridTable$Table$Shape" (2 : Nat)) ∈ lw_all := lw_g (lw_at lw_m7 189 rfl) rfl
theorem q1741 : (Jvm.Cond.code ({ cls := "GridTable$Table$Shape", name := "parts", desc := "(ILGridTable$Table$Shape;I)Z" } : Jvm.MethodName) prog_29_method_7_code (6 : Nat) (Option.some Jvm.ClassFile.FieldType.boolean)) ∈ lw_all := lw_g (lw_at lw_m7 190 rfl) rfl
theorem q1742 : (Jvm.Cond.methodLink "GridTable$Table$Shape" (56 : Nat) ({ cls := "GridTable$Table$Shape", name := "side", desc := "(III)I" } : Jvm.MethodName)) ∈ lw_all := lw_g (lw_at lw_m7 191 rfl) rfl
theorem q1743 : (Jvm.Cond.privateMethod ({ cls := "GridTable$Table$Shape", name := "side", desc := "(III)I" } : Jvm.MethodName)) ∈ lw_tbl := lw_at lw_m7 192 rfl
theorem q1744 : (Jvm.Cond.instanceMethod ({ cls := "GridTable$Table$Shape", name := "side", desc := "(III)I" } : Jvm.MethodName)) ∈ lw_all := lw_g (lw_at lw_m7 193 rfl) rfl
theorem q1745 : (Jvm.Cond.code ({ cls := "GridTable$Table$Shape", name := "side", desc := "(III)I" } : Jvm.MethodName) prog_29_method_6_code (4 : Nat) (Option.some Jvm.ClassFile.FieldType.int)) ∈ lw_all := lw_g (lw_at lw_m7 194 rfl) rfl
theorem q1746 : (Jvm.Cond.methodLinkNest "GridTable$Table$Shape" (52 : Nat) ({ cls := "GridTable", name := "side", desc := "(IIIIII)I" } : Jvm.MethodName) "GridTable") ∈ lw_tbl := lw_at lw_m7 195 rfl
theorem q1749 : (Jvm.Cond.methodLink "GridTable$Table$Shape" (59 : Nat) ({ cls := "java/lang/Integer", name := "signum", desc := "(I)I" } : Jvm.MethodName)) ∈ lw_all := lw_g (lw_at lw_m7 198 rfl) rfl
theorem q1995 : (Jvm.Cond.instanceMethod ({ cls := "GridTable$Table$Shape", name := "<init>", desc := "(LGridTable$Table;Ljava/util/List;)V" } : Jvm.MethodName)) ∈ lw_all := lw_g (lw_at lw_m8 204 rfl) rfl
theorem q1996 : (Jvm.Cond.code ({ cls := "GridTable$Table$Shape", name := "<init>", desc := "(LGridTable$Table;Ljava/util/List;)V" } : Jvm.MethodName) prog_29_method_1_code (4 : Nat) (Option.none : Option Jvm.ClassFile.FieldType)) ∈ lw_all := lw_g (lw_at lw_m8 205 rfl) rfl
theorem q1997 : (Jvm.Cond.methodLink "GridTable$Table$Shape" (9 : Nat) ({ cls := "java/lang/Object", name := "<init>", desc := "()V" } : Jvm.MethodName)) ∈ lw_all := lw_g (lw_at lw_m8 206 rfl) rfl
theorem q1998 : (Jvm.Cond.interfaceEntry "GridTable$Table$Shape" (15 : Nat)) ∈ lw_tbl := lw_at lw_m8 207 rfl
theorem q1999 : (Jvm.Cond.methodLink "GridTable$Table$Shape" (15 : Nat) ({ cls := "java/util/List", name := "size", desc := "()I" } : Jvm.MethodName)) ∈ lw_all := lw_g (lw_at lw_m8 208 rfl) rfl
theorem q2000 : (Jvm.Cond.interfaceEntry "GridTable$Table$Shape" (25 : Nat)) ∈ lw_tbl := lw_at lw_m8 209 rfl
theorem q2001 : (Jvm.Cond.methodLink "GridTable$Table$Shape" (25 : Nat) ({ cls := "java/util/List", name := "get", desc := "(I)Ljava/lang/Object;" } : Jvm.MethodName)) ∈ lw_all := lw_g (lw_at lw_m8 210 rfl) rfl
theorem q2002 : (Jvm.Cond.classLink "GridTable$Table$Shape" (29 : Nat) "java/lang/Integer") ∈ lw_all := lw_g (lw_at lw_m8 211 rfl) rfl
theorem q2003 : (Jvm.Cond.methodLink "GridTable$Table$Shape" (31 : Nat) ({ cls := "java/lang/Integer", name := "intValue", desc := "()I" } : Jvm.MethodName)) ∈ lw_all := lw_g (lw_at lw_m8 212 rfl) rfl
theorem q2004 : (Jvm.Cond.fieldLink "GridTable$Table$Shape" (21 : Nat) "GridTable$Table$Shape" "corners" "[I") ∈ lw_all := lw_g (lw_at lw_m8 213 rfl) rfl
theorem q2009 : (Jvm.Cond.fieldLink "GridTable$Table$Shape" (3 : Nat) "GridTable$Table$Shape" "this$0" "LGridTable$Table;") ∈ lw_all := lw_g (lw_at lw_m8 218 rfl) rfl
theorem q2010 : (Jvm.Cond.laysFinal "GridTable$Table$Shape" "GridTable$Table$Shape" "corners" "[I") ∈ lw_all := lw_g (lw_at lw_m8 219 rfl) rfl
theorem q2011 : (Jvm.Cond.soleField "GridTable$Table$Shape" "corners") ∈ lw_all := lw_g (lw_at lw_m8 220 rfl) rfl
theorem q2012 : (Jvm.Cond.laysFinal "GridTable$Table$Shape" "GridTable$Table$Shape" "this$0" "LGridTable$Table;") ∈ lw_all := lw_g (lw_at lw_m8 221 rfl) rfl
theorem q2013 : (Jvm.Cond.soleField "GridTable$Table$Shape" "this$0") ∈ lw_all := lw_g (lw_at lw_m8 222 rfl) rfl
theorem q2014 : (Jvm.Cond.superclass "GridTable$Table$Shape" "java/lang/Object") ∈ lw_all := lw_g (lw_at lw_m8 223 rfl) rfl
theorem q2234 : (Jvm.Cond.instanceMethod ({ cls := "GridTable$Table$Shape", name := "lies", desc := "(II)I" } : Jvm.MethodName)) ∈ lw_all := lw_g (lw_at lw_m9 203 rfl) rfl
theorem q2235 : (Jvm.Cond.selects "GridTable$Table$Shape" ({ cls := "GridTable$Table$Shape", name := "lies", desc := "(II)I" } : Jvm.MethodName) ({ cls := "GridTable$Table$Shape", name := "lies", desc := "(II)I" } : Jvm.MethodName)) ∈ lw_all := lw_g (lw_at lw_m9 204 rfl) rfl
theorem q2236 : (Jvm.Cond.code ({ cls := "GridTable$Table$Shape", name := "lies", desc := "(II)I" } : Jvm.MethodName) prog_29_method_11_code (5 : Nat) (Option.some Jvm.ClassFile.FieldType.int)) ∈ lw_all := lw_g (lw_at lw_m9 205 rfl) rfl
theorem q2237 : (Jvm.Cond.methodLink "GridTable$Table$Shape" (70 : Nat) ({ cls := "GridTable$Table$Shape", name := "isOn", desc := "(III)Z" } : Jvm.MethodName)) ∈ lw_all := lw_g (lw_at lw_m9 206 rfl) rfl
theorem q2238 : (Jvm.Cond.privateMethod ({ cls := "GridTable$Table$Shape", name := "isOn", desc := "(III)Z" } : Jvm.MethodName)) ∈ lw_tbl := lw_at lw_m9 207 rfl
theorem q2239 : (Jvm.Cond.instanceMethod ({ cls := "GridTable$Table$Shape", name := "isOn", desc := "(III)Z" } : Jvm.MethodName)) ∈ lw_all := lw_g (lw_at lw_m9 208 rfl) rfl
theorem q2240 : (Jvm.Cond.code ({ cls := "GridTable$Table$Shape", name := "isOn", desc := "(III)Z" } : Jvm.MethodName) prog_29_method_9_code (4 : Nat) (Option.some Jvm.ClassFile.FieldType.boolean)) ∈ lw_all := lw_g (lw_at lw_m9 209 rfl) rfl
theorem q2241 : (Jvm.Cond.methodLinkNest "GridTable$Table$Shape" (66 : Nat) ({ cls := "GridTable", name := "isBetween", desc := "(III)Z" } : Jvm.MethodName) "GridTable") ∈ lw_tbl := lw_at lw_m9 210 rfl
theorem q2246 : (Jvm.Cond.methodLink "GridTable$Table$Shape" (73 : Nat) ({ cls := "GridTable$Table$Shape", name := "isRight", desc := "(III)Z" } : Jvm.MethodName)) ∈ lw_all := lw_g (lw_at lw_m9 215 rfl) rfl
theorem q2247 : (Jvm.Cond.privateMethod ({ cls := "GridTable$Table$Shape", name := "isRight", desc := "(III)Z" } : Jvm.MethodName)) ∈ lw_tbl := lw_at lw_m9 216 rfl
theorem q2248 : (Jvm.Cond.instanceMethod ({ cls := "GridTable$Table$Shape", name := "isRight", desc := "(III)Z" } : Jvm.MethodName)) ∈ lw_all := lw_g (lw_at lw_m9 217 rfl) rfl
theorem q2249 : (Jvm.Cond.code ({ cls := "GridTable$Table$Shape", name := "isRight", desc := "(III)Z" } : Jvm.MethodName) prog_29_method_10_code (5 : Nat) (Option.some Jvm.ClassFile.FieldType.boolean)) ∈ lw_all := lw_g (lw_at lw_m9 218 rfl) rfl
theorem q2418 : (Jvm.Cond.instanceMethod ({ cls := "GridTable$Table$Shape", name := "gridPoints", desc := "()I" } : Jvm.MethodName)) ∈ lw_all := lw_g (lw_at lw_m10 147 rfl) rfl
theorem q2419 : (Jvm.Cond.selects "GridTable$Table$Shape" ({ cls := "GridTable$Table$Shape", name := "gridPoints", desc := "()I" } : Jvm.MethodName) ({ cls := "GridTable$Table$Shape", name := "gridPoints", desc := "()I" } : Jvm.MethodName)) ∈ lw_all := lw_g (lw_at lw_m10 148 rfl) rfl
theorem q2420 : (Jvm.Cond.code ({ cls := "GridTable$Table$Shape", name := "gridPoints", desc := "()I" } : Jvm.MethodName) prog_29_method_12_code (3 : Nat) (Option.some Jvm.ClassFile.FieldType.int)) ∈ lw_all := lw_g (lw_at lw_m10 149 rfl) rfl
theorem q2421 : (Jvm.Cond.methodLink "GridTable$Table$Shape" (76 : Nat) ({ cls := "java/lang/Math", name := "abs", desc := "(I)I" } : Jvm.MethodName)) ∈ lw_all := lw_g (lw_at lw_m10 150 rfl) rfl
theorem q2422 : (Jvm.Cond.methodLinkNest "GridTable$Table$Shape" (81 : Nat) ({ cls := "GridTable", name := "divisor", desc := "(II)I" } : Jvm.MethodName) "GridTable") ∈ lw_tbl := lw_at lw_m10 151 rfl
theorem q2427 : (Jvm.Cond.instanceMethod ({ cls := "GridTable$Table$Shape", name := "isConvex", desc := "()Z" } : Jvm.MethodName)) ∈ lw_all := lw_g (lw_at lw_m10 156 rfl) rfl
theorem q2428 : (Jvm.Cond.selects "GridTable$Table$Shape" ({ cls := "GridTable$Table$Shape", name := "isConvex", desc := "()Z" } : Jvm.MethodName) ({ cls := "GridTable$Table$Shape", name := "isConvex", desc := "()Z" } : Jvm.MethodName)) ∈ lw_all := lw_g (lw_at lw_m10 157 rfl) rfl
theorem q2429 : (Jvm.Cond.code ({ cls := "GridTable$Table$Shape", name := "isConvex", desc := "()Z" } : Jvm.MethodName) prog_29_method_13_code (2 : Nat) (Option.some Jvm.ClassFile.FieldType.boolean)) ∈ lw_all := lw_g (lw_at lw_m10 158 rfl) rfl
theorem q2434 : (Jvm.Cond.instanceMethod ({ cls := "GridTable$Table$Shape", name := "hull", desc := "()Ljava/util/List;" } : Jvm.MethodName)) ∈ lw_all := lw_g (lw_at lw_m10 163 rfl) rfl
theorem q2435 : (Jvm.Cond.selects "GridTable$Table$Shape" ({ cls := "GridTable$Table$Shape", name := "hull", desc := "()Ljava/util/List;" } : Jvm.MethodName) ({ cls := "GridTable$Table$Shape", name := "hull", desc := "()Ljava/util/List;" } : Jvm.MethodName)) ∈ lw_all := lw_g (lw_at lw_m10 164 rfl) rfl
theorem q2436 : (Jvm.Cond.code ({ cls := "GridTable$Table$Shape", name := "hull", desc := "()Ljava/util/List;" } : Jvm.MethodName) prog_29_method_15_code (6 : Nat) (Option.some (Jvm.ClassFile.FieldType.object "java/util/List"))) ∈ lw_all := lw_g (lw_at lw_m10 165 rfl) rfl
theorem q2437 : (Jvm.Cond.methodLinkNest "GridTable$Table$Shape" (91 : Nat) ({ cls := "GridTable$Table", name := "isAhead", desc := "(II)Z" } : Jvm.MethodName) "GridTable") ∈ lw_tbl := lw_at lw_m10 166 rfl
theorem q2441 : (Jvm.Cond.classLink "GridTable$Table$Shape" (95 : Nat) "java/util/ArrayList") ∈ lw_all := lw_g (lw_at lw_m10 170 rfl) rfl
theorem q2442 : (Jvm.Cond.methodLink "GridTable$Table$Shape" (97 : Nat) ({ cls := "java/util/ArrayList", name := "<init>", desc := "()V" } : Jvm.MethodName)) ∈ lw_all := lw_g (lw_at lw_m10 171 rfl) rfl
theorem q2443 : (Jvm.Cond.methodLink "GridTable$Table$Shape" (98 : Nat) ({ cls := "java/util/ArrayList", name := "isEmpty", desc := "()Z" } : Jvm.MethodName)) ∈ lw_all := lw_g (lw_at lw_m10 172 rfl) rfl
theorem q2444 : (Jvm.Cond.methodLink "GridTable$Table$Shape" (102 : Nat) ({ cls := "java/lang/Integer", name := "valueOf", desc := "(I)Ljava/lang/Integer;" } : Jvm.MethodName)) ∈ lw_all := lw_g (lw_at lw_m10 173 rfl) rfl
theorem q2445 : (Jvm.Cond.methodLink "GridTable$Table$Shape" (106 : Nat) ({ cls := "java/util/ArrayList", name := "add", desc := "(Ljava/lang/Object;)Z" } : Jvm.MethodName)) ∈ lw_all := lw_g (lw_at lw_m10 174 rfl) rfl
theorem q2446 : (Jvm.Cond.methodLink "GridTable$Table$Shape" (110 : Nat) ({ cls := "GridTable$Table$Shape", name := "around", desc := "(I)I" } : Jvm.MethodName)) ∈ lw_all := lw_g (lw_at lw_m10 175 rfl) rfl
theorem q2447 : (Jvm.Cond.privateMethod ({ cls := "GridTable$Table$Shape", name := "around", desc := "(I)I" } : Jvm.MethodName)) ∈ lw_tbl := lw_at lw_m10 176 rfl
theorem q2448 : (Jvm.Cond.instanceMethod ({ cls := "GridTable$Table$Shape", name := "around", desc := "(I)I" } : Jvm.MethodName)) ∈ lw_all := lw_g (lw_at lw_m10 177 rfl) rfl
theorem q2449 : (Jvm.Cond.code ({ cls := "GridTable$Table$Shape", name := "around", desc := "(I)I" } : Jvm.MethodName) prog_29_method_16_code (9 : Nat) (Option.some Jvm.ClassFile.FieldType.int)) ∈ lw_all := lw_g (lw_at lw_m10 178 rfl) rfl
theorem q2450 : (Jvm.Cond.methodLinkNest "GridTable$Table$Shape" (113 : Nat) ({ cls := "GridTable$Table", name := "isSame", desc := "(II)Z" } : Jvm.MethodName) "GridTable") ∈ lw_tbl := lw_at lw_m10 179 rfl
theorem q2454 : (Jvm.Cond.methodLink "GridTable$Table$Shape" (85 : Nat) ({ cls := "GridTable$Table", name := "square", desc := "(III)I" } : Jvm.MethodName)) ∈ lw_all := lw_g (lw_at lw_m10 183 rfl) rfl
theorem q2461 : (Jvm.Cond.instanceMethod ({ cls := "GridTable$Table$Shape", name := "hullArea", desc := "()I" } : Jvm.MethodName)) ∈ lw_all := lw_g (lw_at lw_m10 190 rfl) rfl
theorem q2462 : (Jvm.Cond.selects "GridTable$Table$Shape" ({ cls := "GridTable$Table$Shape", name := "hullArea", desc := "()I" } : Jvm.MethodName) ({ cls := "GridTable$Table$Shape", name := "hullArea", desc := "()I" } : Jvm.MethodName)) ∈ lw_all := lw_g (lw_at lw_m10 191 rfl) rfl
theorem q2463 : (Jvm.Cond.code ({ cls := "GridTable$Table$Shape", name := "hullArea", desc := "()I" } : Jvm.MethodName) prog_29_method_17_code (6 : Nat) (Option.some Jvm.ClassFile.FieldType.int)) ∈ lw_all := lw_g (lw_at lw_m10 192 rfl) rfl
theorem q2464 : (Jvm.Cond.methodLink "GridTable$Table$Shape" (116 : Nat) ({ cls := "GridTable$Table$Shape", name := "hull", desc := "()Ljava/util/List;" } : Jvm.MethodName)) ∈ lw_all := lw_g (lw_at lw_m10 193 rfl) rfl
theorem q2466 : (Jvm.Cond.instanceMethod ({ cls := "GridTable$Table$Shape", name := "widest", desc := "()I" } : Jvm.MethodName)) ∈ lw_all := lw_g (lw_at lw_m10 195 rfl) rfl
theorem q2467 : (Jvm.Cond.selects "GridTable$Table$Shape" ({ cls := "GridTable$Table$Shape", name := "widest", desc := "()I" } : Jvm.MethodName) ({ cls := "GridTable$Table$Shape", name := "widest", desc := "()I" } : Jvm.MethodName)) ∈ lw_all := lw_g (lw_at lw_m10 196 rfl) rfl
theorem q2468 : (Jvm.Cond.code ({ cls := "GridTable$Table$Shape", name := "widest", desc := "()I" } : Jvm.MethodName) prog_29_method_14_code (4 : Nat) (Option.some Jvm.ClassFile.FieldType.int)) ∈ lw_all := lw_g (lw_at lw_m10 197 rfl) rfl
theorem q2469 : (Jvm.Cond.methodLink "GridTable$Table$Shape" (88 : Nat) ({ cls := "java/lang/Math", name := "max", desc := "(II)I" } : Jvm.MethodName)) ∈ lw_all := lw_g (lw_at lw_m10 198 rfl) rfl
theorem q3364 : (Jvm.Cond.castable "GridTable$Table$Shape" "java/lang/Object") ∈ lw_tbl := lw_at lw_m14 133 rfl
theorem in_X17 : ∀ w ∈ wsX170, w ∈ lw_all := lw_in wsX170 [2010, 2012] (by decide +kernel) (by decide +kernel)

/-! GridTable$Step -/
set_option maxRecDepth 100000
def RX18 : String := "GridTable$Step"
def TX18 : u_T := fun k => match k with
  | 0 => ("GridTable$Step", "deed", "LGridTable$Deed;", true)
  | 1 => ("GridTable$Step", "what", "I", true)
  | 2 => ("GridTable$Step", "round", "I", true)
  | 3 => ("GridTable$Step", "dx", "Ljava/util/Optional;", true)
  | 4 => ("GridTable$Step", "dy", "Ljava/util/Optional;", true)
  | _ => ("GridTable$Step", "test", "LGridTable$Test;", true)
def tyX18 : Nat → FieldType := fun k => match k with
  | 0 => .object "GridTable$Deed"
  | 1 => .int
  | 2 => .int
  | 3 => .object "java/util/Optional"
  | 4 => .object "java/util/Optional"
  | _ => .object "GridTable$Test"
abbrev wsX180 : List Cond := u_ws RX18 TX18 6
theorem nmX18 : ∀ a, a < 6 → ∀ b, b < 6 → a ≠ b → (TX18 a).2.1 ≠ (TX18 b).2.1 := by decide +kernel
theorem tyX18_ok : ∀ k, k < 6 → parseFieldDescriptor (TX18 k).2.2.1 = some (tyX18 k) := by decide +kernel
abbrev cX18_init : ByteArray := prog_26_method_1_code
def yX18_init : MethodName := ⟨RX18, "<init>", "(LGridTable$Deed;IILjava/util/Optional;Ljava/util/Optional;LGridTable$Test;)V"⟩
def dkwX18_init_1 : List UInt8 := [181, 0, 20, 42, 25, 5, 181, 0, 24, 42, 25, 6, 181, 0, 27, 177]
abbrev dktX18_init_1 : List UInt8 := dkwX18_init_1 ++ []
def dkwX18_init_0 : List UInt8 := [42, 183, 0, 1, 42, 43, 181, 0, 7, 42, 28, 181, 0, 13, 42, 29, 181, 0, 17, 42, 25, 4]
abbrev dktX18_init_0 : List UInt8 := dkwX18_init_0 ++ dktX18_init_1
theorem dksX18_init_0 : cX18_init.data.toList.drop 0 = dktX18_init_0 := by decide +kernel
theorem dksX18_init_1 : cX18_init.data.toList.drop 22 = dktX18_init_1 := dk_seg dksX18_init_0 22 rfl rfl
theorem dX18_init_0 : decode cX18_init 0 = .ok (.aload_n 0, 1) := dk_42 (dk_at dksX18_init_0 0 rfl rfl)
theorem dX18_init_1 : decode cX18_init 1 = .ok (.invokespecial 1, 3) := dk_183 0 1 (dk_at dksX18_init_0 1 rfl rfl)
theorem dX18_init_4 : decode cX18_init 4 = .ok (.aload_n 0, 1) := dk_42 (dk_at dksX18_init_0 4 rfl rfl)
theorem dX18_init_5 : decode cX18_init 5 = .ok (.aload_n 1, 1) := dk_43 (dk_at dksX18_init_0 5 rfl rfl)
theorem dX18_init_6 : decode cX18_init 6 = .ok (.putfield 7, 3) := dk_181 0 7 (dk_at dksX18_init_0 6 rfl rfl)
theorem dX18_init_9 : decode cX18_init 9 = .ok (.aload_n 0, 1) := dk_42 (dk_at dksX18_init_0 9 rfl rfl)
theorem dX18_init_10 : decode cX18_init 10 = .ok (.iload_n 2, 1) := dk_28 (dk_at dksX18_init_0 10 rfl rfl)
theorem dX18_init_11 : decode cX18_init 11 = .ok (.putfield 13, 3) := dk_181 0 13 (dk_at dksX18_init_0 11 rfl rfl)
theorem dX18_init_14 : decode cX18_init 14 = .ok (.aload_n 0, 1) := dk_42 (dk_at dksX18_init_0 14 rfl rfl)
theorem dX18_init_15 : decode cX18_init 15 = .ok (.iload_n 3, 1) := dk_29 (dk_at dksX18_init_0 15 rfl rfl)
theorem dX18_init_16 : decode cX18_init 16 = .ok (.putfield 17, 3) := dk_181 0 17 (dk_at dksX18_init_0 16 rfl rfl)
theorem dX18_init_19 : decode cX18_init 19 = .ok (.aload_n 0, 1) := dk_42 (dk_at dksX18_init_0 19 rfl rfl)
theorem dX18_init_20 : decode cX18_init 20 = .ok (.aload 4, 2) := dk_25 4 (dk_at dksX18_init_0 20 rfl rfl)
theorem dX18_init_22 : decode cX18_init 22 = .ok (.putfield 20, 3) := dk_181 0 20 (dk_at dksX18_init_1 0 rfl rfl)
theorem dX18_init_25 : decode cX18_init 25 = .ok (.aload_n 0, 1) := dk_42 (dk_at dksX18_init_1 3 rfl rfl)
theorem dX18_init_26 : decode cX18_init 26 = .ok (.aload 5, 2) := dk_25 5 (dk_at dksX18_init_1 4 rfl rfl)
theorem dX18_init_28 : decode cX18_init 28 = .ok (.putfield 24, 3) := dk_181 0 24 (dk_at dksX18_init_1 6 rfl rfl)
theorem dX18_init_31 : decode cX18_init 31 = .ok (.aload_n 0, 1) := dk_42 (dk_at dksX18_init_1 9 rfl rfl)
theorem dX18_init_32 : decode cX18_init 32 = .ok (.aload 6, 2) := dk_25 6 (dk_at dksX18_init_1 10 rfl rfl)
theorem dX18_init_34 : decode cX18_init 34 = .ok (.putfield 27, 3) := dk_181 0 27 (dk_at dksX18_init_1 12 rfl rfl)
theorem dX18_init_37 : decode cX18_init 37 = .ok (.return_, 1) := dk_177 (dk_at dksX18_init_1 15 rfl rfl)
theorem q167 : (Jvm.Cond.initialized "GridTable$Step") ∈ lw_all := lw_g (lw_at lw_m1 56 rfl) rfl
theorem q826 : (Jvm.Cond.selects "GridTable$Step" ({ cls := "java/lang/Object", name := "getClass", desc := "()Ljava/lang/Class;" } : Jvm.MethodName) ({ cls := "java/lang/Object", name := "getClass", desc := "()Ljava/lang/Class;" } : Jvm.MethodName)) ∈ lw_all := lw_g (lw_at lw_m3 235 rfl) rfl
theorem q1055 : (Jvm.Cond.selects "GridTable$Step" ({ cls := "java/lang/Object", name := "hashCode", desc := "()I" } : Jvm.MethodName) ({ cls := "java/lang/Object", name := "hashCode", desc := "()I" } : Jvm.MethodName)) ∈ lw_all := lw_g (lw_at lw_m4 224 rfl) rfl
theorem q1167 : (Jvm.Cond.selects "GridTable$Step" ({ cls := "java/lang/Object", name := "equals", desc := "(Ljava/lang/Object;)Z" } : Jvm.MethodName) ({ cls := "java/lang/Object", name := "equals", desc := "(Ljava/lang/Object;)Z" } : Jvm.MethodName)) ∈ lw_all := lw_g (lw_at lw_m5 96 rfl) rfl
theorem q2039 : (Jvm.Cond.instantiable "GridTable$Step" (6 : Nat)) ∈ lw_all := lw_g (lw_at lw_m9 8 rfl) rfl
theorem q2129 : (Jvm.Cond.instanceMethod ({ cls := "GridTable$Step", name := "<init>", desc := "(LGridTable$Deed;IILjava/util/Optional;Ljava/util/Optional;LGridTable$Test;)V" } : Jvm.MethodName)) ∈ lw_all := lw_g (lw_at lw_m9 98 rfl) rfl
theorem q2130 : (Jvm.Cond.code ({ cls := "GridTable$Step", name := "<init>", desc := "(LGridTable$Deed;IILjava/util/Optional;Ljava/util/Optional;LGridTable$Test;)V" } : Jvm.MethodName) prog_26_method_1_code (7 : Nat) (Option.none : Option Jvm.ClassFile.FieldType)) ∈ lw_all := lw_g (lw_at lw_m9 99 rfl) rfl
theorem q2131 : (Jvm.Cond.methodLink "GridTable$Step" (1 : Nat) ({ cls := "java/lang/Object", name := "<init>", desc := "()V" } : Jvm.MethodName)) ∈ lw_all := lw_g (lw_at lw_m9 100 rfl) rfl
theorem q2132 : (Jvm.Cond.fieldLink "GridTable$Step" (7 : Nat) "GridTable$Step" "deed" "LGridTable$Deed;") ∈ lw_all := lw_g (lw_at lw_m9 101 rfl) rfl
theorem q2135 : (Jvm.Cond.fieldLink "GridTable$Step" (13 : Nat) "GridTable$Step" "what" "I") ∈ lw_all := lw_g (lw_at lw_m9 104 rfl) rfl
theorem q2140 : (Jvm.Cond.fieldLink "GridTable$Step" (17 : Nat) "GridTable$Step" "round" "I") ∈ lw_all := lw_g (lw_at lw_m9 109 rfl) rfl
theorem q2144 : (Jvm.Cond.fieldLink "GridTable$Step" (20 : Nat) "GridTable$Step" "dx" "Ljava/util/Optional;") ∈ lw_all := lw_g (lw_at lw_m9 113 rfl) rfl
theorem q2146 : (Jvm.Cond.fieldLink "GridTable$Step" (24 : Nat) "GridTable$Step" "dy" "Ljava/util/Optional;") ∈ lw_all := lw_g (lw_at lw_m9 115 rfl) rfl
theorem q2148 : (Jvm.Cond.fieldLink "GridTable$Step" (27 : Nat) "GridTable$Step" "test" "LGridTable$Test;") ∈ lw_all := lw_g (lw_at lw_m9 117 rfl) rfl
theorem q2151 : (Jvm.Cond.laysFinal "GridTable$Step" "GridTable$Step" "deed" "LGridTable$Deed;") ∈ lw_all := lw_g (lw_at lw_m9 120 rfl) rfl
theorem q2152 : (Jvm.Cond.soleField "GridTable$Step" "deed") ∈ lw_all := lw_g (lw_at lw_m9 121 rfl) rfl
theorem q2153 : (Jvm.Cond.laysFinal "GridTable$Step" "GridTable$Step" "what" "I") ∈ lw_all := lw_g (lw_at lw_m9 122 rfl) rfl
theorem q2154 : (Jvm.Cond.soleField "GridTable$Step" "what") ∈ lw_all := lw_g (lw_at lw_m9 123 rfl) rfl
theorem q2155 : (Jvm.Cond.laysFinal "GridTable$Step" "GridTable$Step" "round" "I") ∈ lw_all := lw_g (lw_at lw_m9 124 rfl) rfl
theorem q2156 : (Jvm.Cond.soleField "GridTable$Step" "round") ∈ lw_all := lw_g (lw_at lw_m9 125 rfl) rfl
theorem q2157 : (Jvm.Cond.laysFinal "GridTable$Step" "GridTable$Step" "dx" "Ljava/util/Optional;") ∈ lw_all := lw_g (lw_at lw_m9 126 rfl) rfl
theorem q2158 : (Jvm.Cond.soleField "GridTable$Step" "dx") ∈ lw_all := lw_g (lw_at lw_m9 127 rfl) rfl
theorem q2159 : (Jvm.Cond.laysFinal "GridTable$Step" "GridTable$Step" "dy" "Ljava/util/Optional;") ∈ lw_all := lw_g (lw_at lw_m9 128 rfl) rfl
theorem q2160 : (Jvm.Cond.soleField "GridTable$Step" "dy") ∈ lw_all := lw_g (lw_at lw_m9 129 rfl) rfl
theorem q2161 : (Jvm.Cond.laysFinal "GridTable$Step" "GridTable$Step" "test" "LGridTable$Test;") ∈ lw_all := lw_g (lw_at lw_m9 130 rfl) rfl
theorem q2162 : (Jvm.Cond.soleField "GridTable$Step" "test") ∈ lw_all := lw_g (lw_at lw_m9 131 rfl) rfl
theorem q2163 : (Jvm.Cond.superclass "GridTable$Step" "java/lang/Object") ∈ lw_all := lw_g (lw_at lw_m9 132 rfl) rfl
theorem q3368 : (Jvm.Cond.castable "GridTable$Step" "java/lang/Object") ∈ lw_tbl := lw_at lw_m14 137 rfl
theorem in_X18 : ∀ w ∈ wsX180, w ∈ lw_all := lw_in wsX180 [2151, 2153, 2155, 2157, 2159, 2161] (by decide +kernel) (by decide +kernel)

/-! GridTable$Several -/
set_option maxRecDepth 100000
def RX19 : String := "GridTable$Several"
def TX19 : u_T := fun k => match k with
  | 0 => ("GridTable$Several", "isAll", "Z", true)
  | _ => ("GridTable$Several", "tests", "Ljava/util/ArrayList;", true)
def tyX19 : Nat → FieldType := fun k => match k with
  | 0 => .boolean
  | _ => .object "java/util/ArrayList"
abbrev wsX190 : List Cond := u_ws RX19 TX19 2
theorem nmX19 : ∀ a, a < 2 → ∀ b, b < 2 → a ≠ b → (TX19 a).2.1 ≠ (TX19 b).2.1 := by decide +kernel
theorem tyX19_ok : ∀ k, k < 2 → parseFieldDescriptor (TX19 k).2.2.1 = some (tyX19 k) := by decide +kernel
abbrev cX19_init : ByteArray := prog_17_method_1_code
def yX19_init : MethodName := ⟨RX19, "<init>", "(Z)V"⟩
def dkwX19_init_0 : List UInt8 := [42, 183, 0, 1, 42, 187, 0, 7, 89, 183, 0, 9, 181, 0, 10, 42, 27, 181, 0, 16, 177]
abbrev dktX19_init_0 : List UInt8 := dkwX19_init_0 ++ []
theorem dksX19_init_0 : cX19_init.data.toList.drop 0 = dktX19_init_0 := by decide +kernel
theorem dX19_init_0 : decode cX19_init 0 = .ok (.aload_n 0, 1) := dk_42 (dk_at dksX19_init_0 0 rfl rfl)
theorem dX19_init_1 : decode cX19_init 1 = .ok (.invokespecial 1, 3) := dk_183 0 1 (dk_at dksX19_init_0 1 rfl rfl)
theorem dX19_init_4 : decode cX19_init 4 = .ok (.aload_n 0, 1) := dk_42 (dk_at dksX19_init_0 4 rfl rfl)
theorem dX19_init_5 : decode cX19_init 5 = .ok (.new 7, 3) := dk_187 0 7 (dk_at dksX19_init_0 5 rfl rfl)
theorem dX19_init_8 : decode cX19_init 8 = .ok (.dup, 1) := dk_89 (dk_at dksX19_init_0 8 rfl rfl)
theorem dX19_init_9 : decode cX19_init 9 = .ok (.invokespecial 9, 3) := dk_183 0 9 (dk_at dksX19_init_0 9 rfl rfl)
theorem dX19_init_12 : decode cX19_init 12 = .ok (.putfield 10, 3) := dk_181 0 10 (dk_at dksX19_init_0 12 rfl rfl)
theorem dX19_init_15 : decode cX19_init 15 = .ok (.aload_n 0, 1) := dk_42 (dk_at dksX19_init_0 15 rfl rfl)
theorem dX19_init_16 : decode cX19_init 16 = .ok (.iload_n 1, 1) := dk_27 (dk_at dksX19_init_0 16 rfl rfl)
theorem dX19_init_17 : decode cX19_init 17 = .ok (.putfield 16, 3) := dk_181 0 16 (dk_at dksX19_init_0 17 rfl rfl)
theorem dX19_init_20 : decode cX19_init 20 = .ok (.return_, 1) := dk_177 (dk_at dksX19_init_0 20 rfl rfl)
abbrev cX19_holds : ByteArray := prog_17_method_2_code
def yX19_holds : MethodName := ⟨RX19, "holds", "(LGridTable$Table;)Z"⟩
def dkwX19_holds_2 : List UInt8 := [3, 172, 132, 2, 1, 167, 255, 205, 42, 180, 0, 16, 172]
abbrev dktX19_holds_2 : List UInt8 := dkwX19_holds_2 ++ []
def dkwX19_holds_1 : List UInt8 := [43, 185, 0, 30, 2, 0, 42, 180, 0, 16, 159, 0, 16, 42, 180, 0, 16, 154, 0, 7, 4, 167, 0, 4]
abbrev dktX19_holds_1 : List UInt8 := dkwX19_holds_1 ++ dktX19_holds_2
def dkwX19_holds_0 : List UInt8 := [3, 61, 28, 42, 180, 0, 10, 182, 0, 20, 162, 0, 46, 42, 180, 0, 10, 28, 182, 0, 24, 192, 0, 28]
abbrev dktX19_holds_0 : List UInt8 := dkwX19_holds_0 ++ dktX19_holds_1
theorem dksX19_holds_0 : cX19_holds.data.toList.drop 0 = dktX19_holds_0 := by decide +kernel
theorem dksX19_holds_1 : cX19_holds.data.toList.drop 24 = dktX19_holds_1 := dk_seg dksX19_holds_0 24 rfl rfl
theorem dksX19_holds_2 : cX19_holds.data.toList.drop 48 = dktX19_holds_2 := dk_seg dksX19_holds_1 24 rfl rfl
theorem dX19_holds_0 : decode cX19_holds 0 = .ok (.iconst 0, 1) := dk_3 (dk_at dksX19_holds_0 0 rfl rfl)
theorem dX19_holds_1 : decode cX19_holds 1 = .ok (.istore_n 2, 1) := dk_61 (dk_at dksX19_holds_0 1 rfl rfl)
theorem dX19_holds_2 : decode cX19_holds 2 = .ok (.iload_n 2, 1) := dk_28 (dk_at dksX19_holds_0 2 rfl rfl)
theorem dX19_holds_3 : decode cX19_holds 3 = .ok (.aload_n 0, 1) := dk_42 (dk_at dksX19_holds_0 3 rfl rfl)
theorem dX19_holds_4 : decode cX19_holds 4 = .ok (.getfield 10, 3) := dk_180 0 10 (dk_at dksX19_holds_0 4 rfl rfl)
theorem dX19_holds_7 : decode cX19_holds 7 = .ok (.invokevirtual 20, 3) := dk_182 0 20 (dk_at dksX19_holds_0 7 rfl rfl)
theorem dX19_holds_10 : decode cX19_holds 10 = .ok (.if_icmp .ge 46, 3) := dk_162 0 46 (dk_at dksX19_holds_0 10 rfl rfl)
theorem dX19_holds_13 : decode cX19_holds 13 = .ok (.aload_n 0, 1) := dk_42 (dk_at dksX19_holds_0 13 rfl rfl)
theorem dX19_holds_14 : decode cX19_holds 14 = .ok (.getfield 10, 3) := dk_180 0 10 (dk_at dksX19_holds_0 14 rfl rfl)
theorem dX19_holds_17 : decode cX19_holds 17 = .ok (.iload_n 2, 1) := dk_28 (dk_at dksX19_holds_0 17 rfl rfl)
theorem dX19_holds_18 : decode cX19_holds 18 = .ok (.invokevirtual 24, 3) := dk_182 0 24 (dk_at dksX19_holds_0 18 rfl rfl)
theorem dX19_holds_21 : decode cX19_holds 21 = .ok (.checkcast 28, 3) := dk_192 0 28 (dk_at dksX19_holds_0 21 rfl rfl)
theorem dX19_holds_24 : decode cX19_holds 24 = .ok (.aload_n 1, 1) := dk_43 (dk_at dksX19_holds_1 0 rfl rfl)
theorem dX19_holds_25 : decode cX19_holds 25 = .ok (.invokeinterface 30 2, 5) := by decide +kernel
theorem dX19_holds_30 : decode cX19_holds 30 = .ok (.aload_n 0, 1) := dk_42 (dk_at dksX19_holds_1 6 rfl rfl)
theorem dX19_holds_31 : decode cX19_holds 31 = .ok (.getfield 16, 3) := dk_180 0 16 (dk_at dksX19_holds_1 7 rfl rfl)
theorem dX19_holds_34 : decode cX19_holds 34 = .ok (.if_icmp .eq 16, 3) := dk_159 0 16 (dk_at dksX19_holds_1 10 rfl rfl)
theorem dX19_holds_37 : decode cX19_holds 37 = .ok (.aload_n 0, 1) := dk_42 (dk_at dksX19_holds_1 13 rfl rfl)
theorem dX19_holds_38 : decode cX19_holds 38 = .ok (.getfield 16, 3) := dk_180 0 16 (dk_at dksX19_holds_1 14 rfl rfl)
theorem dX19_holds_41 : decode cX19_holds 41 = .ok (.ifCond .ne 7, 3) := dk_154 0 7 (dk_at dksX19_holds_1 17 rfl rfl)
theorem dX19_holds_44 : decode cX19_holds 44 = .ok (.iconst 1, 1) := dk_4 (dk_at dksX19_holds_1 20 rfl rfl)
theorem dX19_holds_45 : decode cX19_holds 45 = .ok (.goto 4, 3) := dk_167 0 4 (dk_at dksX19_holds_1 21 rfl rfl)
theorem dX19_holds_48 : decode cX19_holds 48 = .ok (.iconst 0, 1) := dk_3 (dk_at dksX19_holds_2 0 rfl rfl)
theorem dX19_holds_49 : decode cX19_holds 49 = .ok (.ireturn, 1) := dk_172 (dk_at dksX19_holds_2 1 rfl rfl)
theorem dX19_holds_50 : decode cX19_holds 50 = .ok (.iinc 2 1, 3) := dk_132 2 1 (dk_at dksX19_holds_2 2 rfl rfl)
theorem dX19_holds_53 : decode cX19_holds 53 = .ok (.goto (-51), 3) := dk_167 255 205 (dk_at dksX19_holds_2 5 rfl rfl)
theorem dX19_holds_56 : decode cX19_holds 56 = .ok (.aload_n 0, 1) := dk_42 (dk_at dksX19_holds_2 8 rfl rfl)
theorem dX19_holds_57 : decode cX19_holds 57 = .ok (.getfield 16, 3) := dk_180 0 16 (dk_at dksX19_holds_2 9 rfl rfl)
theorem dX19_holds_60 : decode cX19_holds 60 = .ok (.ireturn, 1) := dk_172 (dk_at dksX19_holds_2 12 rfl rfl)
theorem q168 : (Jvm.Cond.initialized "GridTable$Several") ∈ lw_all := lw_g (lw_at lw_m1 57 rfl) rfl
theorem q818 : (Jvm.Cond.selects "GridTable$Several" ({ cls := "java/lang/Object", name := "getClass", desc := "()Ljava/lang/Class;" } : Jvm.MethodName) ({ cls := "java/lang/Object", name := "getClass", desc := "()Ljava/lang/Class;" } : Jvm.MethodName)) ∈ lw_all := lw_g (lw_at lw_m3 227 rfl) rfl
theorem q1047 : (Jvm.Cond.selects "GridTable$Several" ({ cls := "java/lang/Object", name := "hashCode", desc := "()I" } : Jvm.MethodName) ({ cls := "java/lang/Object", name := "hashCode", desc := "()I" } : Jvm.MethodName)) ∈ lw_all := lw_g (lw_at lw_m4 216 rfl) rfl
theorem q1159 : (Jvm.Cond.selects "GridTable$Several" ({ cls := "java/lang/Object", name := "equals", desc := "(Ljava/lang/Object;)Z" } : Jvm.MethodName) ({ cls := "java/lang/Object", name := "equals", desc := "(Ljava/lang/Object;)Z" } : Jvm.MethodName)) ∈ lw_all := lw_g (lw_at lw_m5 88 rfl) rfl
theorem q2046 : (Jvm.Cond.instantiable "GridTable$Several" (2 : Nat)) ∈ lw_all := lw_g (lw_at lw_m9 15 rfl) rfl
theorem q2048 : (Jvm.Cond.instanceMethod ({ cls := "GridTable$Several", name := "<init>", desc := "(Z)V" } : Jvm.MethodName)) ∈ lw_all := lw_g (lw_at lw_m9 17 rfl) rfl
theorem q2049 : (Jvm.Cond.code ({ cls := "GridTable$Several", name := "<init>", desc := "(Z)V" } : Jvm.MethodName) prog_17_method_1_code (2 : Nat) (Option.none : Option Jvm.ClassFile.FieldType)) ∈ lw_all := lw_g (lw_at lw_m9 18 rfl) rfl
theorem q2050 : (Jvm.Cond.methodLink "GridTable$Several" (1 : Nat) ({ cls := "java/lang/Object", name := "<init>", desc := "()V" } : Jvm.MethodName)) ∈ lw_all := lw_g (lw_at lw_m9 19 rfl) rfl
theorem q2051 : (Jvm.Cond.classLink "GridTable$Several" (7 : Nat) "java/util/ArrayList") ∈ lw_all := lw_g (lw_at lw_m9 20 rfl) rfl
theorem q2052 : (Jvm.Cond.methodLink "GridTable$Several" (9 : Nat) ({ cls := "java/util/ArrayList", name := "<init>", desc := "()V" } : Jvm.MethodName)) ∈ lw_all := lw_g (lw_at lw_m9 21 rfl) rfl
theorem q2053 : (Jvm.Cond.fieldLink "GridTable$Several" (16 : Nat) "GridTable$Several" "isAll" "Z") ∈ lw_all := lw_g (lw_at lw_m9 22 rfl) rfl
theorem q2054 : (Jvm.Cond.fieldLink "GridTable$Several" (10 : Nat) "GridTable$Several" "tests" "Ljava/util/ArrayList;") ∈ lw_all := lw_g (lw_at lw_m9 23 rfl) rfl
theorem q2056 : (Jvm.Cond.laysFinal "GridTable$Several" "GridTable$Several" "isAll" "Z") ∈ lw_all := lw_g (lw_at lw_m9 25 rfl) rfl
theorem q2057 : (Jvm.Cond.soleField "GridTable$Several" "isAll") ∈ lw_all := lw_g (lw_at lw_m9 26 rfl) rfl
theorem q2058 : (Jvm.Cond.laysFinal "GridTable$Several" "GridTable$Several" "tests" "Ljava/util/ArrayList;") ∈ lw_all := lw_g (lw_at lw_m9 27 rfl) rfl
theorem q2059 : (Jvm.Cond.soleField "GridTable$Several" "tests") ∈ lw_all := lw_g (lw_at lw_m9 28 rfl) rfl
theorem q2060 : (Jvm.Cond.superclass "GridTable$Several" "java/lang/Object") ∈ lw_all := lw_g (lw_at lw_m9 29 rfl) rfl
theorem q2250 : (Jvm.Cond.castable "GridTable$Several" "GridTable$Test") ∈ lw_tbl := lw_at lw_m9 219 rfl
theorem q2251 : (Jvm.Cond.selects "GridTable$Several" ({ cls := "GridTable$Test", name := "holds", desc := "(LGridTable$Table;)Z" } : Jvm.MethodName) ({ cls := "GridTable$Several", name := "holds", desc := "(LGridTable$Table;)Z" } : Jvm.MethodName)) ∈ lw_all := lw_g (lw_at lw_m9 220 rfl) rfl
theorem q2252 : (Jvm.Cond.unhidden "GridTable$Several" "holds" "(LGridTable$Table;)Z") ∈ lw_tbl := lw_at lw_m9 221 rfl
theorem q2253 : (Jvm.Cond.instanceMethod ({ cls := "GridTable$Several", name := "holds", desc := "(LGridTable$Table;)Z" } : Jvm.MethodName)) ∈ lw_all := lw_g (lw_at lw_m9 222 rfl) rfl
theorem q2254 : (Jvm.Cond.publicMethod ({ cls := "GridTable$Several", name := "holds", desc := "(LGridTable$Table;)Z" } : Jvm.MethodName)) ∈ lw_tbl := lw_at lw_m9 223 rfl
theorem q2255 : (Jvm.Cond.code ({ cls := "GridTable$Several", name := "holds", desc := "(LGridTable$Table;)Z" } : Jvm.MethodName) prog_17_method_2_code (3 : Nat) (Option.some Jvm.ClassFile.FieldType.boolean)) ∈ lw_all := lw_g (lw_at lw_m9 224 rfl) rfl
theorem q2256 : (Jvm.Cond.methodLink "GridTable$Several" (20 : Nat) ({ cls := "java/util/ArrayList", name := "size", desc := "()I" } : Jvm.MethodName)) ∈ lw_all := lw_g (lw_at lw_m9 225 rfl) rfl
theorem q2257 : (Jvm.Cond.methodLink "GridTable$Several" (24 : Nat) ({ cls := "java/util/ArrayList", name := "get", desc := "(I)Ljava/lang/Object;" } : Jvm.MethodName)) ∈ lw_all := lw_g (lw_at lw_m9 226 rfl) rfl
theorem q2258 : (Jvm.Cond.classLink "GridTable$Several" (28 : Nat) "GridTable$Test") ∈ lw_all := lw_g (lw_at lw_m9 227 rfl) rfl
theorem q2259 : (Jvm.Cond.interfaceEntry "GridTable$Several" (30 : Nat)) ∈ lw_tbl := lw_at lw_m9 228 rfl
theorem q2260 : (Jvm.Cond.methodLink "GridTable$Several" (30 : Nat) ({ cls := "GridTable$Test", name := "holds", desc := "(LGridTable$Table;)Z" } : Jvm.MethodName)) ∈ lw_all := lw_g (lw_at lw_m9 229 rfl) rfl
theorem q3369 : (Jvm.Cond.castable "GridTable$Several" "java/lang/Object") ∈ lw_tbl := lw_at lw_m14 138 rfl
theorem in_X19 : ∀ w ∈ wsX190, w ∈ lw_all := lw_in wsX190 [2056, 2058] (by decide +kernel) (by decide +kernel)

/-! GridTable$Denied -/
set_option maxRecDepth 100000
def RX20 : String := "GridTable$Denied"
def TX20 : u_T := fun k => match k with
  | _ => ("GridTable$Denied", "test", "LGridTable$Test;", true)
def tyX20 : Nat → FieldType := fun k => match k with
  | _ => .object "GridTable$Test"
abbrev wsX200 : List Cond := u_ws RX20 TX20 1
theorem nmX20 : ∀ a, a < 1 → ∀ b, b < 1 → a ≠ b → (TX20 a).2.1 ≠ (TX20 b).2.1 := by decide +kernel
theorem tyX20_ok : ∀ k, k < 1 → parseFieldDescriptor (TX20 k).2.2.1 = some (tyX20 k) := by decide +kernel
abbrev cX20_init : ByteArray := prog_9_method_1_code
def yX20_init : MethodName := ⟨RX20, "<init>", "(LGridTable$Test;)V"⟩
def dkwX20_init_0 : List UInt8 := [42, 183, 0, 1, 42, 43, 181, 0, 7, 177]
abbrev dktX20_init_0 : List UInt8 := dkwX20_init_0 ++ []
theorem dksX20_init_0 : cX20_init.data.toList.drop 0 = dktX20_init_0 := by decide +kernel
theorem dX20_init_0 : decode cX20_init 0 = .ok (.aload_n 0, 1) := dk_42 (dk_at dksX20_init_0 0 rfl rfl)
theorem dX20_init_1 : decode cX20_init 1 = .ok (.invokespecial 1, 3) := dk_183 0 1 (dk_at dksX20_init_0 1 rfl rfl)
theorem dX20_init_4 : decode cX20_init 4 = .ok (.aload_n 0, 1) := dk_42 (dk_at dksX20_init_0 4 rfl rfl)
theorem dX20_init_5 : decode cX20_init 5 = .ok (.aload_n 1, 1) := dk_43 (dk_at dksX20_init_0 5 rfl rfl)
theorem dX20_init_6 : decode cX20_init 6 = .ok (.putfield 7, 3) := dk_181 0 7 (dk_at dksX20_init_0 6 rfl rfl)
theorem dX20_init_9 : decode cX20_init 9 = .ok (.return_, 1) := dk_177 (dk_at dksX20_init_0 9 rfl rfl)
abbrev cX20_holds : ByteArray := prog_9_method_2_code
def yX20_holds : MethodName := ⟨RX20, "holds", "(LGridTable$Table;)Z"⟩
def dkwX20_holds_0 : List UInt8 := [42, 180, 0, 7, 43, 185, 0, 13, 2, 0, 154, 0, 7, 4, 167, 0, 4, 3, 172]
abbrev dktX20_holds_0 : List UInt8 := dkwX20_holds_0 ++ []
theorem dksX20_holds_0 : cX20_holds.data.toList.drop 0 = dktX20_holds_0 := by decide +kernel
theorem dX20_holds_0 : decode cX20_holds 0 = .ok (.aload_n 0, 1) := dk_42 (dk_at dksX20_holds_0 0 rfl rfl)
theorem dX20_holds_1 : decode cX20_holds 1 = .ok (.getfield 7, 3) := dk_180 0 7 (dk_at dksX20_holds_0 1 rfl rfl)
theorem dX20_holds_4 : decode cX20_holds 4 = .ok (.aload_n 1, 1) := dk_43 (dk_at dksX20_holds_0 4 rfl rfl)
theorem dX20_holds_5 : decode cX20_holds 5 = .ok (.invokeinterface 13 2, 5) := by decide +kernel
theorem dX20_holds_10 : decode cX20_holds 10 = .ok (.ifCond .ne 7, 3) := dk_154 0 7 (dk_at dksX20_holds_0 10 rfl rfl)
theorem dX20_holds_13 : decode cX20_holds 13 = .ok (.iconst 1, 1) := dk_4 (dk_at dksX20_holds_0 13 rfl rfl)
theorem dX20_holds_14 : decode cX20_holds 14 = .ok (.goto 4, 3) := dk_167 0 4 (dk_at dksX20_holds_0 14 rfl rfl)
theorem dX20_holds_17 : decode cX20_holds 17 = .ok (.iconst 0, 1) := dk_3 (dk_at dksX20_holds_0 17 rfl rfl)
theorem dX20_holds_18 : decode cX20_holds 18 = .ok (.ireturn, 1) := dk_172 (dk_at dksX20_holds_0 18 rfl rfl)
theorem q169 : (Jvm.Cond.initialized "GridTable$Denied") ∈ lw_all := lw_g (lw_at lw_m1 58 rfl) rfl
theorem q810 : (Jvm.Cond.selects "GridTable$Denied" ({ cls := "java/lang/Object", name := "getClass", desc := "()Ljava/lang/Class;" } : Jvm.MethodName) ({ cls := "java/lang/Object", name := "getClass", desc := "()Ljava/lang/Class;" } : Jvm.MethodName)) ∈ lw_all := lw_g (lw_at lw_m3 219 rfl) rfl
theorem q1039 : (Jvm.Cond.selects "GridTable$Denied" ({ cls := "java/lang/Object", name := "hashCode", desc := "()I" } : Jvm.MethodName) ({ cls := "java/lang/Object", name := "hashCode", desc := "()I" } : Jvm.MethodName)) ∈ lw_all := lw_g (lw_at lw_m4 208 rfl) rfl
theorem q1151 : (Jvm.Cond.selects "GridTable$Denied" ({ cls := "java/lang/Object", name := "equals", desc := "(Ljava/lang/Object;)Z" } : Jvm.MethodName) ({ cls := "java/lang/Object", name := "equals", desc := "(Ljava/lang/Object;)Z" } : Jvm.MethodName)) ∈ lw_all := lw_g (lw_at lw_m5 80 rfl) rfl
theorem q2071 : (Jvm.Cond.instantiable "GridTable$Denied" (1 : Nat)) ∈ lw_all := lw_g (lw_at lw_m9 40 rfl) rfl
theorem q2073 : (Jvm.Cond.instanceMethod ({ cls := "GridTable$Denied", name := "<init>", desc := "(LGridTable$Test;)V" } : Jvm.MethodName)) ∈ lw_all := lw_g (lw_at lw_m9 42 rfl) rfl
theorem q2074 : (Jvm.Cond.code ({ cls := "GridTable$Denied", name := "<init>", desc := "(LGridTable$Test;)V" } : Jvm.MethodName) prog_9_method_1_code (2 : Nat) (Option.none : Option Jvm.ClassFile.FieldType)) ∈ lw_all := lw_g (lw_at lw_m9 43 rfl) rfl
theorem q2075 : (Jvm.Cond.methodLink "GridTable$Denied" (1 : Nat) ({ cls := "java/lang/Object", name := "<init>", desc := "()V" } : Jvm.MethodName)) ∈ lw_all := lw_g (lw_at lw_m9 44 rfl) rfl
theorem q2076 : (Jvm.Cond.fieldLink "GridTable$Denied" (7 : Nat) "GridTable$Denied" "test" "LGridTable$Test;") ∈ lw_all := lw_g (lw_at lw_m9 45 rfl) rfl
theorem q2077 : (Jvm.Cond.laysFinal "GridTable$Denied" "GridTable$Denied" "test" "LGridTable$Test;") ∈ lw_all := lw_g (lw_at lw_m9 46 rfl) rfl
theorem q2078 : (Jvm.Cond.soleField "GridTable$Denied" "test") ∈ lw_all := lw_g (lw_at lw_m9 47 rfl) rfl
theorem q2079 : (Jvm.Cond.superclass "GridTable$Denied" "java/lang/Object") ∈ lw_all := lw_g (lw_at lw_m9 48 rfl) rfl
theorem q2217 : (Jvm.Cond.castable "GridTable$Denied" "GridTable$Test") ∈ lw_tbl := lw_at lw_m9 186 rfl
theorem q2218 : (Jvm.Cond.selects "GridTable$Denied" ({ cls := "GridTable$Test", name := "holds", desc := "(LGridTable$Table;)Z" } : Jvm.MethodName) ({ cls := "GridTable$Denied", name := "holds", desc := "(LGridTable$Table;)Z" } : Jvm.MethodName)) ∈ lw_all := lw_g (lw_at lw_m9 187 rfl) rfl
theorem q2219 : (Jvm.Cond.unhidden "GridTable$Denied" "holds" "(LGridTable$Table;)Z") ∈ lw_tbl := lw_at lw_m9 188 rfl
theorem q2220 : (Jvm.Cond.instanceMethod ({ cls := "GridTable$Denied", name := "holds", desc := "(LGridTable$Table;)Z" } : Jvm.MethodName)) ∈ lw_all := lw_g (lw_at lw_m9 189 rfl) rfl
theorem q2221 : (Jvm.Cond.publicMethod ({ cls := "GridTable$Denied", name := "holds", desc := "(LGridTable$Table;)Z" } : Jvm.MethodName)) ∈ lw_tbl := lw_at lw_m9 190 rfl
theorem q2222 : (Jvm.Cond.code ({ cls := "GridTable$Denied", name := "holds", desc := "(LGridTable$Table;)Z" } : Jvm.MethodName) prog_9_method_2_code (2 : Nat) (Option.some Jvm.ClassFile.FieldType.boolean)) ∈ lw_all := lw_g (lw_at lw_m9 191 rfl) rfl
theorem q2223 : (Jvm.Cond.interfaceEntry "GridTable$Denied" (13 : Nat)) ∈ lw_tbl := lw_at lw_m9 192 rfl
theorem q2224 : (Jvm.Cond.methodLink "GridTable$Denied" (13 : Nat) ({ cls := "GridTable$Test", name := "holds", desc := "(LGridTable$Table;)Z" } : Jvm.MethodName)) ∈ lw_all := lw_g (lw_at lw_m9 193 rfl) rfl
theorem q3370 : (Jvm.Cond.castable "GridTable$Denied" "java/lang/Object") ∈ lw_tbl := lw_at lw_m14 139 rfl
theorem in_X20 : ∀ w ∈ wsX200, w ∈ lw_all := lw_in wsX200 [2077] (by decide +kernel) (by decide +kernel)

/-! GridTable$Inside -/
set_option maxRecDepth 100000
def RX21 : String := "GridTable$Inside"
def TX21 : u_T := fun k => match k with
  | 0 => ("GridTable$Inside", "point", "I", true)
  | _ => ("GridTable$Inside", "shape", "I", true)
def tyX21 : Nat → FieldType := fun k => match k with
  | 0 => .int
  | _ => .int
abbrev wsX210 : List Cond := u_ws RX21 TX21 2
theorem nmX21 : ∀ a, a < 2 → ∀ b, b < 2 → a ≠ b → (TX21 a).2.1 ≠ (TX21 b).2.1 := by decide +kernel
theorem tyX21_ok : ∀ k, k < 2 → parseFieldDescriptor (TX21 k).2.2.1 = some (tyX21 k) := by decide +kernel
abbrev cX21_init : ByteArray := prog_11_method_1_code
def yX21_init : MethodName := ⟨RX21, "<init>", "(II)V"⟩
def dkwX21_init_0 : List UInt8 := [42, 183, 0, 1, 42, 27, 181, 0, 7, 42, 28, 181, 0, 13, 177]
abbrev dktX21_init_0 : List UInt8 := dkwX21_init_0 ++ []
theorem dksX21_init_0 : cX21_init.data.toList.drop 0 = dktX21_init_0 := by decide +kernel
theorem dX21_init_0 : decode cX21_init 0 = .ok (.aload_n 0, 1) := dk_42 (dk_at dksX21_init_0 0 rfl rfl)
theorem dX21_init_1 : decode cX21_init 1 = .ok (.invokespecial 1, 3) := dk_183 0 1 (dk_at dksX21_init_0 1 rfl rfl)
theorem dX21_init_4 : decode cX21_init 4 = .ok (.aload_n 0, 1) := dk_42 (dk_at dksX21_init_0 4 rfl rfl)
theorem dX21_init_5 : decode cX21_init 5 = .ok (.iload_n 1, 1) := dk_27 (dk_at dksX21_init_0 5 rfl rfl)
theorem dX21_init_6 : decode cX21_init 6 = .ok (.putfield 7, 3) := dk_181 0 7 (dk_at dksX21_init_0 6 rfl rfl)
theorem dX21_init_9 : decode cX21_init 9 = .ok (.aload_n 0, 1) := dk_42 (dk_at dksX21_init_0 9 rfl rfl)
theorem dX21_init_10 : decode cX21_init 10 = .ok (.iload_n 2, 1) := dk_28 (dk_at dksX21_init_0 10 rfl rfl)
theorem dX21_init_11 : decode cX21_init 11 = .ok (.putfield 13, 3) := dk_181 0 13 (dk_at dksX21_init_0 11 rfl rfl)
theorem dX21_init_14 : decode cX21_init 14 = .ok (.return_, 1) := dk_177 (dk_at dksX21_init_0 14 rfl rfl)
abbrev cX21_holds : ByteArray := prog_11_method_2_code
def yX21_holds : MethodName := ⟨RX21, "holds", "(LGridTable$Table;)Z"⟩
def dkwX21_holds_1 : List UInt8 := [180, 0, 34, 42, 180, 0, 7, 46, 182, 0, 37, 4, 160, 0, 7, 4, 167, 0, 4, 3, 172]
abbrev dktX21_holds_1 : List UInt8 := dkwX21_holds_1 ++ []
def dkwX21_holds_0 : List UInt8 := [43, 180, 0, 16, 42, 180, 0, 13, 182, 0, 22, 192, 0, 28, 43, 180, 0, 30, 42, 180, 0, 7, 46, 43]
abbrev dktX21_holds_0 : List UInt8 := dkwX21_holds_0 ++ dktX21_holds_1
theorem dksX21_holds_0 : cX21_holds.data.toList.drop 0 = dktX21_holds_0 := by decide +kernel
theorem dksX21_holds_1 : cX21_holds.data.toList.drop 24 = dktX21_holds_1 := dk_seg dksX21_holds_0 24 rfl rfl
theorem dX21_holds_0 : decode cX21_holds 0 = .ok (.aload_n 1, 1) := dk_43 (dk_at dksX21_holds_0 0 rfl rfl)
theorem dX21_holds_1 : decode cX21_holds 1 = .ok (.getfield 16, 3) := dk_180 0 16 (dk_at dksX21_holds_0 1 rfl rfl)
theorem dX21_holds_4 : decode cX21_holds 4 = .ok (.aload_n 0, 1) := dk_42 (dk_at dksX21_holds_0 4 rfl rfl)
theorem dX21_holds_5 : decode cX21_holds 5 = .ok (.getfield 13, 3) := dk_180 0 13 (dk_at dksX21_holds_0 5 rfl rfl)
theorem dX21_holds_8 : decode cX21_holds 8 = .ok (.invokevirtual 22, 3) := dk_182 0 22 (dk_at dksX21_holds_0 8 rfl rfl)
theorem dX21_holds_11 : decode cX21_holds 11 = .ok (.checkcast 28, 3) := dk_192 0 28 (dk_at dksX21_holds_0 11 rfl rfl)
theorem dX21_holds_14 : decode cX21_holds 14 = .ok (.aload_n 1, 1) := dk_43 (dk_at dksX21_holds_0 14 rfl rfl)
theorem dX21_holds_15 : decode cX21_holds 15 = .ok (.getfield 30, 3) := dk_180 0 30 (dk_at dksX21_holds_0 15 rfl rfl)
theorem dX21_holds_18 : decode cX21_holds 18 = .ok (.aload_n 0, 1) := dk_42 (dk_at dksX21_holds_0 18 rfl rfl)
theorem dX21_holds_19 : decode cX21_holds 19 = .ok (.getfield 7, 3) := dk_180 0 7 (dk_at dksX21_holds_0 19 rfl rfl)
theorem dX21_holds_22 : decode cX21_holds 22 = .ok (.iaload, 1) := dk_46 (dk_at dksX21_holds_0 22 rfl rfl)
theorem dX21_holds_23 : decode cX21_holds 23 = .ok (.aload_n 1, 1) := dk_43 (dk_at dksX21_holds_0 23 rfl rfl)
theorem dX21_holds_24 : decode cX21_holds 24 = .ok (.getfield 34, 3) := dk_180 0 34 (dk_at dksX21_holds_1 0 rfl rfl)
theorem dX21_holds_27 : decode cX21_holds 27 = .ok (.aload_n 0, 1) := dk_42 (dk_at dksX21_holds_1 3 rfl rfl)
theorem dX21_holds_28 : decode cX21_holds 28 = .ok (.getfield 7, 3) := dk_180 0 7 (dk_at dksX21_holds_1 4 rfl rfl)
theorem dX21_holds_31 : decode cX21_holds 31 = .ok (.iaload, 1) := dk_46 (dk_at dksX21_holds_1 7 rfl rfl)
theorem dX21_holds_32 : decode cX21_holds 32 = .ok (.invokevirtual 37, 3) := dk_182 0 37 (dk_at dksX21_holds_1 8 rfl rfl)
theorem dX21_holds_35 : decode cX21_holds 35 = .ok (.iconst 1, 1) := dk_4 (dk_at dksX21_holds_1 11 rfl rfl)
theorem dX21_holds_36 : decode cX21_holds 36 = .ok (.if_icmp .ne 7, 3) := dk_160 0 7 (dk_at dksX21_holds_1 12 rfl rfl)
theorem dX21_holds_39 : decode cX21_holds 39 = .ok (.iconst 1, 1) := dk_4 (dk_at dksX21_holds_1 15 rfl rfl)
theorem dX21_holds_40 : decode cX21_holds 40 = .ok (.goto 4, 3) := dk_167 0 4 (dk_at dksX21_holds_1 16 rfl rfl)
theorem dX21_holds_43 : decode cX21_holds 43 = .ok (.iconst 0, 1) := dk_3 (dk_at dksX21_holds_1 19 rfl rfl)
theorem dX21_holds_44 : decode cX21_holds 44 = .ok (.ireturn, 1) := dk_172 (dk_at dksX21_holds_1 20 rfl rfl)
theorem q170 : (Jvm.Cond.initialized "GridTable$Inside") ∈ lw_all := lw_g (lw_at lw_m1 59 rfl) rfl
theorem q241 : (Jvm.Cond.fieldLinkNest "GridTable$Inside" (30 : Nat) "GridTable$Table" "xs" "[I" "GridTable") ∈ lw_tbl := lw_at lw_m1 130 rfl
theorem q248 : (Jvm.Cond.fieldLinkNest "GridTable$Inside" (34 : Nat) "GridTable$Table" "ys" "[I" "GridTable") ∈ lw_tbl := lw_at lw_m1 137 rfl
theorem q256 : (Jvm.Cond.fieldLinkNest "GridTable$Inside" (16 : Nat) "GridTable$Table" "shapes" "Ljava/util/ArrayList;" "GridTable") ∈ lw_tbl := lw_at lw_m1 145 rfl
theorem q812 : (Jvm.Cond.selects "GridTable$Inside" ({ cls := "java/lang/Object", name := "getClass", desc := "()Ljava/lang/Class;" } : Jvm.MethodName) ({ cls := "java/lang/Object", name := "getClass", desc := "()Ljava/lang/Class;" } : Jvm.MethodName)) ∈ lw_all := lw_g (lw_at lw_m3 221 rfl) rfl
theorem q1041 : (Jvm.Cond.selects "GridTable$Inside" ({ cls := "java/lang/Object", name := "hashCode", desc := "()I" } : Jvm.MethodName) ({ cls := "java/lang/Object", name := "hashCode", desc := "()I" } : Jvm.MethodName)) ∈ lw_all := lw_g (lw_at lw_m4 210 rfl) rfl
theorem q1153 : (Jvm.Cond.selects "GridTable$Inside" ({ cls := "java/lang/Object", name := "equals", desc := "(Ljava/lang/Object;)Z" } : Jvm.MethodName) ({ cls := "java/lang/Object", name := "equals", desc := "(Ljava/lang/Object;)Z" } : Jvm.MethodName)) ∈ lw_all := lw_g (lw_at lw_m5 82 rfl) rfl
theorem q2084 : (Jvm.Cond.instantiable "GridTable$Inside" (2 : Nat)) ∈ lw_all := lw_g (lw_at lw_m9 53 rfl) rfl
theorem q2086 : (Jvm.Cond.instanceMethod ({ cls := "GridTable$Inside", name := "<init>", desc := "(II)V" } : Jvm.MethodName)) ∈ lw_all := lw_g (lw_at lw_m9 55 rfl) rfl
theorem q2087 : (Jvm.Cond.code ({ cls := "GridTable$Inside", name := "<init>", desc := "(II)V" } : Jvm.MethodName) prog_11_method_1_code (3 : Nat) (Option.none : Option Jvm.ClassFile.FieldType)) ∈ lw_all := lw_g (lw_at lw_m9 56 rfl) rfl
theorem q2088 : (Jvm.Cond.methodLink "GridTable$Inside" (1 : Nat) ({ cls := "java/lang/Object", name := "<init>", desc := "()V" } : Jvm.MethodName)) ∈ lw_all := lw_g (lw_at lw_m9 57 rfl) rfl
theorem q2089 : (Jvm.Cond.fieldLink "GridTable$Inside" (7 : Nat) "GridTable$Inside" "point" "I") ∈ lw_all := lw_g (lw_at lw_m9 58 rfl) rfl
theorem q2090 : (Jvm.Cond.fieldLink "GridTable$Inside" (13 : Nat) "GridTable$Inside" "shape" "I") ∈ lw_all := lw_g (lw_at lw_m9 59 rfl) rfl
theorem q2091 : (Jvm.Cond.laysFinal "GridTable$Inside" "GridTable$Inside" "point" "I") ∈ lw_all := lw_g (lw_at lw_m9 60 rfl) rfl
theorem q2092 : (Jvm.Cond.soleField "GridTable$Inside" "point") ∈ lw_all := lw_g (lw_at lw_m9 61 rfl) rfl
theorem q2093 : (Jvm.Cond.laysFinal "GridTable$Inside" "GridTable$Inside" "shape" "I") ∈ lw_all := lw_g (lw_at lw_m9 62 rfl) rfl
theorem q2094 : (Jvm.Cond.soleField "GridTable$Inside" "shape") ∈ lw_all := lw_g (lw_at lw_m9 63 rfl) rfl
theorem q2095 : (Jvm.Cond.superclass "GridTable$Inside" "java/lang/Object") ∈ lw_all := lw_g (lw_at lw_m9 64 rfl) rfl
theorem q2225 : (Jvm.Cond.castable "GridTable$Inside" "GridTable$Test") ∈ lw_tbl := lw_at lw_m9 194 rfl
theorem q2226 : (Jvm.Cond.selects "GridTable$Inside" ({ cls := "GridTable$Test", name := "holds", desc := "(LGridTable$Table;)Z" } : Jvm.MethodName) ({ cls := "GridTable$Inside", name := "holds", desc := "(LGridTable$Table;)Z" } : Jvm.MethodName)) ∈ lw_all := lw_g (lw_at lw_m9 195 rfl) rfl
theorem q2227 : (Jvm.Cond.unhidden "GridTable$Inside" "holds" "(LGridTable$Table;)Z") ∈ lw_tbl := lw_at lw_m9 196 rfl
theorem q2228 : (Jvm.Cond.instanceMethod ({ cls := "GridTable$Inside", name := "holds", desc := "(LGridTable$Table;)Z" } : Jvm.MethodName)) ∈ lw_all := lw_g (lw_at lw_m9 197 rfl) rfl
theorem q2229 : (Jvm.Cond.publicMethod ({ cls := "GridTable$Inside", name := "holds", desc := "(LGridTable$Table;)Z" } : Jvm.MethodName)) ∈ lw_tbl := lw_at lw_m9 198 rfl
theorem q2230 : (Jvm.Cond.code ({ cls := "GridTable$Inside", name := "holds", desc := "(LGridTable$Table;)Z" } : Jvm.MethodName) prog_11_method_2_code (2 : Nat) (Option.some Jvm.ClassFile.FieldType.boolean)) ∈ lw_all := lw_g (lw_at lw_m9 199 rfl) rfl
theorem q2231 : (Jvm.Cond.methodLink "GridTable$Inside" (22 : Nat) ({ cls := "java/util/ArrayList", name := "get", desc := "(I)Ljava/lang/Object;" } : Jvm.MethodName)) ∈ lw_all := lw_g (lw_at lw_m9 200 rfl) rfl
theorem q2232 : (Jvm.Cond.classLink "GridTable$Inside" (28 : Nat) "GridTable$Table$Shape") ∈ lw_all := lw_g (lw_at lw_m9 201 rfl) rfl
theorem q2233 : (Jvm.Cond.methodLink "GridTable$Inside" (37 : Nat) ({ cls := "GridTable$Table$Shape", name := "lies", desc := "(II)I" } : Jvm.MethodName)) ∈ lw_all := lw_g (lw_at lw_m9 202 rfl) rfl
theorem q3371 : (Jvm.Cond.castable "GridTable$Inside" "java/lang/Object") ∈ lw_tbl := lw_at lw_m14 140 rfl
theorem in_X21 : ∀ w ∈ wsX210, w ∈ lw_all := lw_in wsX210 [2091, 2093] (by decide +kernel) (by decide +kernel)

/-! GridTable$Compared -/
set_option maxRecDepth 100000
def RX22 : String := "GridTable$Compared"
def TX22 : u_T := fun k => match k with
  | 0 => ("GridTable$Compared", "sign", "Ljava/lang/String;", true)
  | 1 => ("GridTable$Compared", "left", "LGridTable$Sum;", true)
  | _ => ("GridTable$Compared", "right", "LGridTable$Sum;", true)
def tyX22 : Nat → FieldType := fun k => match k with
  | 0 => .object "java/lang/String"
  | 1 => .object "GridTable$Sum"
  | _ => .object "GridTable$Sum"
abbrev wsX220 : List Cond := u_ws RX22 TX22 3
theorem nmX22 : ∀ a, a < 3 → ∀ b, b < 3 → a ≠ b → (TX22 a).2.1 ≠ (TX22 b).2.1 := by decide +kernel
theorem tyX22_ok : ∀ k, k < 3 → parseFieldDescriptor (TX22 k).2.2.1 = some (tyX22 k) := by decide +kernel
abbrev cX22_init : ByteArray := prog_3_method_1_code
def yX22_init : MethodName := ⟨RX22, "<init>", "(Ljava/lang/String;LGridTable$Sum;LGridTable$Sum;)V"⟩
def dkwX22_init_0 : List UInt8 := [42, 183, 0, 1, 42, 43, 181, 0, 7, 42, 44, 181, 0, 13, 42, 45, 181, 0, 17, 177]
abbrev dktX22_init_0 : List UInt8 := dkwX22_init_0 ++ []
theorem dksX22_init_0 : cX22_init.data.toList.drop 0 = dktX22_init_0 := by decide +kernel
theorem dX22_init_0 : decode cX22_init 0 = .ok (.aload_n 0, 1) := dk_42 (dk_at dksX22_init_0 0 rfl rfl)
theorem dX22_init_1 : decode cX22_init 1 = .ok (.invokespecial 1, 3) := dk_183 0 1 (dk_at dksX22_init_0 1 rfl rfl)
theorem dX22_init_4 : decode cX22_init 4 = .ok (.aload_n 0, 1) := dk_42 (dk_at dksX22_init_0 4 rfl rfl)
theorem dX22_init_5 : decode cX22_init 5 = .ok (.aload_n 1, 1) := dk_43 (dk_at dksX22_init_0 5 rfl rfl)
theorem dX22_init_6 : decode cX22_init 6 = .ok (.putfield 7, 3) := dk_181 0 7 (dk_at dksX22_init_0 6 rfl rfl)
theorem dX22_init_9 : decode cX22_init 9 = .ok (.aload_n 0, 1) := dk_42 (dk_at dksX22_init_0 9 rfl rfl)
theorem dX22_init_10 : decode cX22_init 10 = .ok (.aload_n 2, 1) := dk_44 (dk_at dksX22_init_0 10 rfl rfl)
theorem dX22_init_11 : decode cX22_init 11 = .ok (.putfield 13, 3) := dk_181 0 13 (dk_at dksX22_init_0 11 rfl rfl)
theorem dX22_init_14 : decode cX22_init 14 = .ok (.aload_n 0, 1) := dk_42 (dk_at dksX22_init_0 14 rfl rfl)
theorem dX22_init_15 : decode cX22_init 15 = .ok (.aload_n 3, 1) := dk_45 (dk_at dksX22_init_0 15 rfl rfl)
theorem dX22_init_16 : decode cX22_init 16 = .ok (.putfield 17, 3) := dk_181 0 17 (dk_at dksX22_init_0 16 rfl rfl)
theorem dX22_init_19 : decode cX22_init 19 = .ok (.return_, 1) := dk_177 (dk_at dksX22_init_0 19 rfl rfl)
abbrev cX22_holds : ByteArray := prog_3_method_2_code
def yX22_holds : MethodName := ⟨RX22, "holds", "(LGridTable$Table;)Z"⟩
def dkwX22_holds_4 : List UInt8 := [167, 0, 4, 3, 172]
abbrev dktX22_holds_4 : List UInt8 := dkwX22_holds_4 ++ []
def dkwX22_holds_3 : List UInt8 := [42, 180, 0, 7, 42, 180, 0, 7, 182, 0, 38, 4, 100, 182, 0, 32, 16, 61, 160, 0, 7, 4]
abbrev dktX22_holds_3 : List UInt8 := dkwX22_holds_3 ++ dktX22_holds_4
def dkwX22_holds_2 : List UInt8 := [158, 0, 24, 42, 180, 0, 7, 3, 182, 0, 32, 16, 62, 160, 0, 7, 4, 167, 0, 33, 3, 167, 0, 29]
abbrev dktX22_holds_2 : List UInt8 := dkwX22_holds_2 ++ dktX22_holds_3
def dkwX22_holds_1 : List UInt8 := [42, 180, 0, 7, 3, 182, 0, 32, 16, 60, 160, 0, 7, 4, 167, 0, 58, 3, 167, 0, 54, 28]
abbrev dktX22_holds_1 : List UInt8 := dkwX22_holds_1 ++ dktX22_holds_2
def dkwX22_holds_0 : List UInt8 := [42, 180, 0, 13, 43, 182, 0, 20, 42, 180, 0, 17, 43, 182, 0, 20, 184, 0, 26, 61, 28, 156, 0, 24]
abbrev dktX22_holds_0 : List UInt8 := dkwX22_holds_0 ++ dktX22_holds_1
theorem dksX22_holds_0 : cX22_holds.data.toList.drop 0 = dktX22_holds_0 := by decide +kernel
theorem dksX22_holds_1 : cX22_holds.data.toList.drop 24 = dktX22_holds_1 := dk_seg dksX22_holds_0 24 rfl rfl
theorem dksX22_holds_2 : cX22_holds.data.toList.drop 46 = dktX22_holds_2 := dk_seg dksX22_holds_1 22 rfl rfl
theorem dksX22_holds_3 : cX22_holds.data.toList.drop 70 = dktX22_holds_3 := dk_seg dksX22_holds_2 24 rfl rfl
theorem dksX22_holds_4 : cX22_holds.data.toList.drop 92 = dktX22_holds_4 := dk_seg dksX22_holds_3 22 rfl rfl
theorem dX22_holds_0 : decode cX22_holds 0 = .ok (.aload_n 0, 1) := dk_42 (dk_at dksX22_holds_0 0 rfl rfl)
theorem dX22_holds_1 : decode cX22_holds 1 = .ok (.getfield 13, 3) := dk_180 0 13 (dk_at dksX22_holds_0 1 rfl rfl)
theorem dX22_holds_4 : decode cX22_holds 4 = .ok (.aload_n 1, 1) := dk_43 (dk_at dksX22_holds_0 4 rfl rfl)
theorem dX22_holds_5 : decode cX22_holds 5 = .ok (.invokevirtual 20, 3) := dk_182 0 20 (dk_at dksX22_holds_0 5 rfl rfl)
theorem dX22_holds_8 : decode cX22_holds 8 = .ok (.aload_n 0, 1) := dk_42 (dk_at dksX22_holds_0 8 rfl rfl)
theorem dX22_holds_9 : decode cX22_holds 9 = .ok (.getfield 17, 3) := dk_180 0 17 (dk_at dksX22_holds_0 9 rfl rfl)
theorem dX22_holds_12 : decode cX22_holds 12 = .ok (.aload_n 1, 1) := dk_43 (dk_at dksX22_holds_0 12 rfl rfl)
theorem dX22_holds_13 : decode cX22_holds 13 = .ok (.invokevirtual 20, 3) := dk_182 0 20 (dk_at dksX22_holds_0 13 rfl rfl)
theorem dX22_holds_16 : decode cX22_holds 16 = .ok (.invokestatic 26, 3) := dk_184 0 26 (dk_at dksX22_holds_0 16 rfl rfl)
theorem dX22_holds_19 : decode cX22_holds 19 = .ok (.istore_n 2, 1) := dk_61 (dk_at dksX22_holds_0 19 rfl rfl)
theorem dX22_holds_20 : decode cX22_holds 20 = .ok (.iload_n 2, 1) := dk_28 (dk_at dksX22_holds_0 20 rfl rfl)
theorem dX22_holds_21 : decode cX22_holds 21 = .ok (.ifCond .ge 24, 3) := dk_156 0 24 (dk_at dksX22_holds_0 21 rfl rfl)
theorem dX22_holds_24 : decode cX22_holds 24 = .ok (.aload_n 0, 1) := dk_42 (dk_at dksX22_holds_1 0 rfl rfl)
theorem dX22_holds_25 : decode cX22_holds 25 = .ok (.getfield 7, 3) := dk_180 0 7 (dk_at dksX22_holds_1 1 rfl rfl)
theorem dX22_holds_28 : decode cX22_holds 28 = .ok (.iconst 0, 1) := dk_3 (dk_at dksX22_holds_1 4 rfl rfl)
theorem dX22_holds_29 : decode cX22_holds 29 = .ok (.invokevirtual 32, 3) := dk_182 0 32 (dk_at dksX22_holds_1 5 rfl rfl)
theorem dX22_holds_32 : decode cX22_holds 32 = .ok (.bipush 60, 2) := dk_16 60 (dk_at dksX22_holds_1 8 rfl rfl)
theorem dX22_holds_34 : decode cX22_holds 34 = .ok (.if_icmp .ne 7, 3) := dk_160 0 7 (dk_at dksX22_holds_1 10 rfl rfl)
theorem dX22_holds_37 : decode cX22_holds 37 = .ok (.iconst 1, 1) := dk_4 (dk_at dksX22_holds_1 13 rfl rfl)
theorem dX22_holds_38 : decode cX22_holds 38 = .ok (.goto 58, 3) := dk_167 0 58 (dk_at dksX22_holds_1 14 rfl rfl)
theorem dX22_holds_41 : decode cX22_holds 41 = .ok (.iconst 0, 1) := dk_3 (dk_at dksX22_holds_1 17 rfl rfl)
theorem dX22_holds_42 : decode cX22_holds 42 = .ok (.goto 54, 3) := dk_167 0 54 (dk_at dksX22_holds_1 18 rfl rfl)
theorem dX22_holds_45 : decode cX22_holds 45 = .ok (.iload_n 2, 1) := dk_28 (dk_at dksX22_holds_1 21 rfl rfl)
theorem dX22_holds_46 : decode cX22_holds 46 = .ok (.ifCond .le 24, 3) := dk_158 0 24 (dk_at dksX22_holds_2 0 rfl rfl)
theorem dX22_holds_49 : decode cX22_holds 49 = .ok (.aload_n 0, 1) := dk_42 (dk_at dksX22_holds_2 3 rfl rfl)
theorem dX22_holds_50 : decode cX22_holds 50 = .ok (.getfield 7, 3) := dk_180 0 7 (dk_at dksX22_holds_2 4 rfl rfl)
theorem dX22_holds_53 : decode cX22_holds 53 = .ok (.iconst 0, 1) := dk_3 (dk_at dksX22_holds_2 7 rfl rfl)
theorem dX22_holds_54 : decode cX22_holds 54 = .ok (.invokevirtual 32, 3) := dk_182 0 32 (dk_at dksX22_holds_2 8 rfl rfl)
theorem dX22_holds_57 : decode cX22_holds 57 = .ok (.bipush 62, 2) := dk_16 62 (dk_at dksX22_holds_2 11 rfl rfl)
theorem dX22_holds_59 : decode cX22_holds 59 = .ok (.if_icmp .ne 7, 3) := dk_160 0 7 (dk_at dksX22_holds_2 13 rfl rfl)
theorem dX22_holds_62 : decode cX22_holds 62 = .ok (.iconst 1, 1) := dk_4 (dk_at dksX22_holds_2 16 rfl rfl)
theorem dX22_holds_63 : decode cX22_holds 63 = .ok (.goto 33, 3) := dk_167 0 33 (dk_at dksX22_holds_2 17 rfl rfl)
theorem dX22_holds_66 : decode cX22_holds 66 = .ok (.iconst 0, 1) := dk_3 (dk_at dksX22_holds_2 20 rfl rfl)
theorem dX22_holds_67 : decode cX22_holds 67 = .ok (.goto 29, 3) := dk_167 0 29 (dk_at dksX22_holds_2 21 rfl rfl)
theorem dX22_holds_70 : decode cX22_holds 70 = .ok (.aload_n 0, 1) := dk_42 (dk_at dksX22_holds_3 0 rfl rfl)
theorem dX22_holds_71 : decode cX22_holds 71 = .ok (.getfield 7, 3) := dk_180 0 7 (dk_at dksX22_holds_3 1 rfl rfl)
theorem dX22_holds_74 : decode cX22_holds 74 = .ok (.aload_n 0, 1) := dk_42 (dk_at dksX22_holds_3 4 rfl rfl)
theorem dX22_holds_75 : decode cX22_holds 75 = .ok (.getfield 7, 3) := dk_180 0 7 (dk_at dksX22_holds_3 5 rfl rfl)
theorem dX22_holds_78 : decode cX22_holds 78 = .ok (.invokevirtual 38, 3) := dk_182 0 38 (dk_at dksX22_holds_3 8 rfl rfl)
theorem dX22_holds_81 : decode cX22_holds 81 = .ok (.iconst 1, 1) := dk_4 (dk_at dksX22_holds_3 11 rfl rfl)
theorem dX22_holds_82 : decode cX22_holds 82 = .ok (.isub, 1) := dk_100 (dk_at dksX22_holds_3 12 rfl rfl)
theorem dX22_holds_83 : decode cX22_holds 83 = .ok (.invokevirtual 32, 3) := dk_182 0 32 (dk_at dksX22_holds_3 13 rfl rfl)
theorem dX22_holds_86 : decode cX22_holds 86 = .ok (.bipush 61, 2) := dk_16 61 (dk_at dksX22_holds_3 16 rfl rfl)
theorem dX22_holds_88 : decode cX22_holds 88 = .ok (.if_icmp .ne 7, 3) := dk_160 0 7 (dk_at dksX22_holds_3 18 rfl rfl)
theorem dX22_holds_91 : decode cX22_holds 91 = .ok (.iconst 1, 1) := dk_4 (dk_at dksX22_holds_3 21 rfl rfl)
theorem dX22_holds_92 : decode cX22_holds 92 = .ok (.goto 4, 3) := dk_167 0 4 (dk_at dksX22_holds_4 0 rfl rfl)
theorem dX22_holds_95 : decode cX22_holds 95 = .ok (.iconst 0, 1) := dk_3 (dk_at dksX22_holds_4 3 rfl rfl)
theorem dX22_holds_96 : decode cX22_holds 96 = .ok (.ireturn, 1) := dk_172 (dk_at dksX22_holds_4 4 rfl rfl)
theorem q171 : (Jvm.Cond.initialized "GridTable$Compared") ∈ lw_all := lw_g (lw_at lw_m1 60 rfl) rfl
theorem q805 : (Jvm.Cond.selects "GridTable$Compared" ({ cls := "java/lang/Object", name := "getClass", desc := "()Ljava/lang/Class;" } : Jvm.MethodName) ({ cls := "java/lang/Object", name := "getClass", desc := "()Ljava/lang/Class;" } : Jvm.MethodName)) ∈ lw_all := lw_g (lw_at lw_m3 214 rfl) rfl
theorem q1029 : (Jvm.Cond.selects "GridTable$Compared" ({ cls := "java/lang/Object", name := "hashCode", desc := "()I" } : Jvm.MethodName) ({ cls := "java/lang/Object", name := "hashCode", desc := "()I" } : Jvm.MethodName)) ∈ lw_all := lw_g (lw_at lw_m4 198 rfl) rfl
theorem q1144 : (Jvm.Cond.selects "GridTable$Compared" ({ cls := "java/lang/Object", name := "equals", desc := "(Ljava/lang/Object;)Z" } : Jvm.MethodName) ({ cls := "java/lang/Object", name := "equals", desc := "(Ljava/lang/Object;)Z" } : Jvm.MethodName)) ∈ lw_all := lw_g (lw_at lw_m5 73 rfl) rfl
theorem q2101 : (Jvm.Cond.instantiable "GridTable$Compared" (3 : Nat)) ∈ lw_all := lw_g (lw_at lw_m9 70 rfl) rfl
theorem q2103 : (Jvm.Cond.instanceMethod ({ cls := "GridTable$Compared", name := "<init>", desc := "(Ljava/lang/String;LGridTable$Sum;LGridTable$Sum;)V" } : Jvm.MethodName)) ∈ lw_all := lw_g (lw_at lw_m9 72 rfl) rfl
theorem q2104 : (Jvm.Cond.code ({ cls := "GridTable$Compared", name := "<init>", desc := "(Ljava/lang/String;LGridTable$Sum;LGridTable$Sum;)V" } : Jvm.MethodName) prog_3_method_1_code (4 : Nat) (Option.none : Option Jvm.ClassFile.FieldType)) ∈ lw_all := lw_g (lw_at lw_m9 73 rfl) rfl
theorem q2105 : (Jvm.Cond.methodLink "GridTable$Compared" (1 : Nat) ({ cls := "java/lang/Object", name := "<init>", desc := "()V" } : Jvm.MethodName)) ∈ lw_all := lw_g (lw_at lw_m9 74 rfl) rfl
theorem q2106 : (Jvm.Cond.fieldLink "GridTable$Compared" (7 : Nat) "GridTable$Compared" "sign" "Ljava/lang/String;") ∈ lw_all := lw_g (lw_at lw_m9 75 rfl) rfl
theorem q2107 : (Jvm.Cond.fieldLink "GridTable$Compared" (13 : Nat) "GridTable$Compared" "left" "LGridTable$Sum;") ∈ lw_all := lw_g (lw_at lw_m9 76 rfl) rfl
theorem q2108 : (Jvm.Cond.fieldLink "GridTable$Compared" (17 : Nat) "GridTable$Compared" "right" "LGridTable$Sum;") ∈ lw_all := lw_g (lw_at lw_m9 77 rfl) rfl
theorem q2109 : (Jvm.Cond.laysFinal "GridTable$Compared" "GridTable$Compared" "sign" "Ljava/lang/String;") ∈ lw_all := lw_g (lw_at lw_m9 78 rfl) rfl
theorem q2110 : (Jvm.Cond.soleField "GridTable$Compared" "sign") ∈ lw_all := lw_g (lw_at lw_m9 79 rfl) rfl
theorem q2111 : (Jvm.Cond.laysFinal "GridTable$Compared" "GridTable$Compared" "left" "LGridTable$Sum;") ∈ lw_all := lw_g (lw_at lw_m9 80 rfl) rfl
theorem q2112 : (Jvm.Cond.soleField "GridTable$Compared" "left") ∈ lw_all := lw_g (lw_at lw_m9 81 rfl) rfl
theorem q2113 : (Jvm.Cond.laysFinal "GridTable$Compared" "GridTable$Compared" "right" "LGridTable$Sum;") ∈ lw_all := lw_g (lw_at lw_m9 82 rfl) rfl
theorem q2114 : (Jvm.Cond.soleField "GridTable$Compared" "right") ∈ lw_all := lw_g (lw_at lw_m9 83 rfl) rfl
theorem q2115 : (Jvm.Cond.superclass "GridTable$Compared" "java/lang/Object") ∈ lw_all := lw_g (lw_at lw_m9 84 rfl) rfl
theorem q2207 : (Jvm.Cond.castable "GridTable$Compared" "GridTable$Test") ∈ lw_tbl := lw_at lw_m9 176 rfl
theorem q2208 : (Jvm.Cond.selects "GridTable$Compared" ({ cls := "GridTable$Test", name := "holds", desc := "(LGridTable$Table;)Z" } : Jvm.MethodName) ({ cls := "GridTable$Compared", name := "holds", desc := "(LGridTable$Table;)Z" } : Jvm.MethodName)) ∈ lw_all := lw_g (lw_at lw_m9 177 rfl) rfl
theorem q2209 : (Jvm.Cond.unhidden "GridTable$Compared" "holds" "(LGridTable$Table;)Z") ∈ lw_tbl := lw_at lw_m9 178 rfl
theorem q2210 : (Jvm.Cond.instanceMethod ({ cls := "GridTable$Compared", name := "holds", desc := "(LGridTable$Table;)Z" } : Jvm.MethodName)) ∈ lw_all := lw_g (lw_at lw_m9 179 rfl) rfl
theorem q2211 : (Jvm.Cond.publicMethod ({ cls := "GridTable$Compared", name := "holds", desc := "(LGridTable$Table;)Z" } : Jvm.MethodName)) ∈ lw_tbl := lw_at lw_m9 180 rfl
theorem q2212 : (Jvm.Cond.code ({ cls := "GridTable$Compared", name := "holds", desc := "(LGridTable$Table;)Z" } : Jvm.MethodName) prog_3_method_2_code (3 : Nat) (Option.some Jvm.ClassFile.FieldType.boolean)) ∈ lw_all := lw_g (lw_at lw_m9 181 rfl) rfl
theorem q2213 : (Jvm.Cond.methodLink "GridTable$Compared" (20 : Nat) ({ cls := "GridTable$Sum", name := "of", desc := "(LGridTable$Table;)I" } : Jvm.MethodName)) ∈ lw_all := lw_g (lw_at lw_m9 182 rfl) rfl
theorem q2214 : (Jvm.Cond.methodLink "GridTable$Compared" (26 : Nat) ({ cls := "java/lang/Integer", name := "compare", desc := "(II)I" } : Jvm.MethodName)) ∈ lw_all := lw_g (lw_at lw_m9 183 rfl) rfl
theorem q2215 : (Jvm.Cond.methodLink "GridTable$Compared" (32 : Nat) ({ cls := "java/lang/String", name := "charAt", desc := "(I)C" } : Jvm.MethodName)) ∈ lw_all := lw_g (lw_at lw_m9 184 rfl) rfl
theorem q2216 : (Jvm.Cond.methodLink "GridTable$Compared" (38 : Nat) ({ cls := "java/lang/String", name := "length", desc := "()I" } : Jvm.MethodName)) ∈ lw_all := lw_g (lw_at lw_m9 185 rfl) rfl
theorem q3372 : (Jvm.Cond.castable "GridTable$Compared" "java/lang/Object") ∈ lw_tbl := lw_at lw_m14 141 rfl
theorem in_X22 : ∀ w ∈ wsX220, w ∈ lw_all := lw_in wsX220 [2109, 2111, 2113] (by decide +kernel) (by decide +kernel)

/-! GridTable$Test -/
set_option maxRecDepth 100000
def RX23 : String := "GridTable$Test"
abbrev cX23_always : ByteArray := prog_31_method_2_code
def yX23_always : MethodName := ⟨RX23, "always", "()LGridTable$Test;"⟩
def dkwX23_always_0 : List UInt8 := [187, 0, 1, 89, 183, 0, 3, 176]
abbrev dktX23_always_0 : List UInt8 := dkwX23_always_0 ++ []
theorem dksX23_always_0 : cX23_always.data.toList.drop 0 = dktX23_always_0 := by decide +kernel
theorem dX23_always_0 : decode cX23_always 0 = .ok (.new 1, 3) := dk_187 0 1 (dk_at dksX23_always_0 0 rfl rfl)
theorem dX23_always_3 : decode cX23_always 3 = .ok (.dup, 1) := dk_89 (dk_at dksX23_always_0 3 rfl rfl)
theorem dX23_always_4 : decode cX23_always 4 = .ok (.invokespecial 3, 3) := dk_183 0 3 (dk_at dksX23_always_0 4 rfl rfl)
theorem dX23_always_7 : decode cX23_always 7 = .ok (.areturn, 1) := dk_176 (dk_at dksX23_always_0 7 rfl rfl)
theorem q172 : (Jvm.Cond.initialized "GridTable$Test") ∈ lw_all := lw_g (lw_at lw_m1 61 rfl) rfl
theorem q2119 : (Jvm.Cond.static ({ cls := "GridTable$Test", name := "always", desc := "()LGridTable$Test;" } : Jvm.MethodName)) ∈ lw_all := lw_g (lw_at lw_m9 88 rfl) rfl
theorem q2120 : (Jvm.Cond.code ({ cls := "GridTable$Test", name := "always", desc := "()LGridTable$Test;" } : Jvm.MethodName) prog_31_method_2_code (0 : Nat) (Option.some (Jvm.ClassFile.FieldType.object "GridTable$Test"))) ∈ lw_all := lw_g (lw_at lw_m9 89 rfl) rfl
theorem q2121 : (Jvm.Cond.classLink "GridTable$Test" (1 : Nat) "GridTable$Test$1") ∈ lw_all := lw_g (lw_at lw_m9 90 rfl) rfl
theorem q2123 : (Jvm.Cond.methodLink "GridTable$Test" (3 : Nat) ({ cls := "GridTable$Test$1", name := "<init>", desc := "()V" } : Jvm.MethodName)) ∈ lw_all := lw_g (lw_at lw_m9 92 rfl) rfl
theorem q2205 : (Jvm.Cond.interfaceMethod "GridTable$Test" "GridTable$Test" "holds" "(LGridTable$Table;)Z") ∈ lw_tbl := lw_at lw_m9 174 rfl
theorem q2206 : (Jvm.Cond.declares ({ cls := "GridTable$Test", name := "holds", desc := "(LGridTable$Table;)Z" } : Jvm.MethodName)) ∈ lw_tbl := lw_at lw_m9 175 rfl

/-! GridTable$Test$1 -/
set_option maxRecDepth 100000
def RX24 : String := "GridTable$Test$1"
abbrev cX24_init : ByteArray := prog_32_method_1_code
def yX24_init : MethodName := ⟨RX24, "<init>", "()V"⟩
theorem dX24_init_0 : decode cX24_init 0 = .ok (.aload_n 0, 1) := by decide +kernel
theorem dX24_init_1 : decode cX24_init 1 = .ok (.invokespecial 1, 3) := by decide +kernel
theorem dX24_init_4 : decode cX24_init 4 = .ok (.return_, 1) := by decide +kernel
abbrev cX24_holds : ByteArray := prog_32_method_2_code
def yX24_holds : MethodName := ⟨RX24, "holds", "(LGridTable$Table;)Z"⟩
theorem dX24_holds_0 : decode cX24_holds 0 = .ok (.iconst 1, 1) := by decide +kernel
theorem dX24_holds_1 : decode cX24_holds 1 = .ok (.ireturn, 1) := by decide +kernel
theorem q173 : (Jvm.Cond.initialized "GridTable$Test$1") ∈ lw_all := lw_g (lw_at lw_m1 62 rfl) rfl
theorem q830 : (Jvm.Cond.selects "GridTable$Test$1" ({ cls := "java/lang/Object", name := "getClass", desc := "()Ljava/lang/Class;" } : Jvm.MethodName) ({ cls := "java/lang/Object", name := "getClass", desc := "()Ljava/lang/Class;" } : Jvm.MethodName)) ∈ lw_all := lw_g (lw_at lw_m3 239 rfl) rfl
theorem q1059 : (Jvm.Cond.selects "GridTable$Test$1" ({ cls := "java/lang/Object", name := "hashCode", desc := "()I" } : Jvm.MethodName) ({ cls := "java/lang/Object", name := "hashCode", desc := "()I" } : Jvm.MethodName)) ∈ lw_all := lw_g (lw_at lw_m4 228 rfl) rfl
theorem q1171 : (Jvm.Cond.selects "GridTable$Test$1" ({ cls := "java/lang/Object", name := "equals", desc := "(Ljava/lang/Object;)Z" } : Jvm.MethodName) ({ cls := "java/lang/Object", name := "equals", desc := "(Ljava/lang/Object;)Z" } : Jvm.MethodName)) ∈ lw_all := lw_g (lw_at lw_m5 100 rfl) rfl
theorem q2122 : (Jvm.Cond.instantiable "GridTable$Test$1" (0 : Nat)) ∈ lw_all := lw_g (lw_at lw_m9 91 rfl) rfl
theorem q2124 : (Jvm.Cond.instanceMethod ({ cls := "GridTable$Test$1", name := "<init>", desc := "()V" } : Jvm.MethodName)) ∈ lw_all := lw_g (lw_at lw_m9 93 rfl) rfl
theorem q2125 : (Jvm.Cond.code ({ cls := "GridTable$Test$1", name := "<init>", desc := "()V" } : Jvm.MethodName) prog_32_method_1_code (1 : Nat) (Option.none : Option Jvm.ClassFile.FieldType)) ∈ lw_all := lw_g (lw_at lw_m9 94 rfl) rfl
theorem q2126 : (Jvm.Cond.methodLink "GridTable$Test$1" (1 : Nat) ({ cls := "java/lang/Object", name := "<init>", desc := "()V" } : Jvm.MethodName)) ∈ lw_all := lw_g (lw_at lw_m9 95 rfl) rfl
theorem q2127 : (Jvm.Cond.superclass "GridTable$Test$1" "java/lang/Object") ∈ lw_all := lw_g (lw_at lw_m9 96 rfl) rfl
theorem q2261 : (Jvm.Cond.castable "GridTable$Test$1" "GridTable$Test") ∈ lw_tbl := lw_at lw_m9 230 rfl
theorem q2262 : (Jvm.Cond.selects "GridTable$Test$1" ({ cls := "GridTable$Test", name := "holds", desc := "(LGridTable$Table;)Z" } : Jvm.MethodName) ({ cls := "GridTable$Test$1", name := "holds", desc := "(LGridTable$Table;)Z" } : Jvm.MethodName)) ∈ lw_all := lw_g (lw_at lw_m9 231 rfl) rfl
theorem q2263 : (Jvm.Cond.unhidden "GridTable$Test$1" "holds" "(LGridTable$Table;)Z") ∈ lw_tbl := lw_at lw_m9 232 rfl
theorem q2264 : (Jvm.Cond.instanceMethod ({ cls := "GridTable$Test$1", name := "holds", desc := "(LGridTable$Table;)Z" } : Jvm.MethodName)) ∈ lw_all := lw_g (lw_at lw_m9 233 rfl) rfl
theorem q2265 : (Jvm.Cond.publicMethod ({ cls := "GridTable$Test$1", name := "holds", desc := "(LGridTable$Table;)Z" } : Jvm.MethodName)) ∈ lw_tbl := lw_at lw_m9 234 rfl
theorem q2266 : (Jvm.Cond.code ({ cls := "GridTable$Test$1", name := "holds", desc := "(LGridTable$Table;)Z" } : Jvm.MethodName) prog_32_method_2_code (2 : Nat) (Option.some Jvm.ClassFile.FieldType.boolean)) ∈ lw_all := lw_g (lw_at lw_m9 235 rfl) rfl
theorem q3373 : (Jvm.Cond.castable "GridTable$Test$1" "java/lang/Object") ∈ lw_tbl := lw_at lw_m14 142 rfl

/-! java/lang/IndexOutOfBoundsException -/
set_option maxRecDepth 100000
def RJ30 : String := "java/lang/IndexOutOfBoundsException"
def TJ30 : u_T := fun k => match k with
  | 0 => ("java/lang/Throwable", "cause", "Ljava/lang/Throwable;", false)
  | 1 => ("java/lang/Throwable", "stackTrace", "[Ljava/lang/StackTraceElement;", false)
  | 2 => ("java/lang/Throwable", "suppressedExceptions", "Ljava/util/List;", false)
  | 3 => ("java/lang/Throwable", "detailMessage", "Ljava/lang/String;", false)
  | 4 => ("java/lang/Throwable", "backtrace", "Ljava/lang/Object;", false)
  | _ => ("java/lang/Throwable", "depth", "I", false)
def tyJ30 : Nat → FieldType := fun k => match k with
  | 0 => .object "java/lang/Throwable"
  | 1 => .array (.object "java/lang/StackTraceElement")
  | 2 => .object "java/util/List"
  | 3 => .object "java/lang/String"
  | 4 => .object "java/lang/Object"
  | _ => .int
abbrev wsJ300 : List Cond := u_ws RJ30 TJ30 6
theorem nmJ30 : ∀ a, a < 6 → ∀ b, b < 6 → a ≠ b → (TJ30 a).2.1 ≠ (TJ30 b).2.1 := by decide +kernel
theorem tyJ30_ok : ∀ k, k < 6 → parseFieldDescriptor (TJ30 k).2.2.1 = some (tyJ30 k) := by decide +kernel
abbrev cJ30_init : ByteArray := prog_55_method_1_code
def yJ30_init : MethodName := ⟨RJ30, "<init>", "()V"⟩
theorem dJ30_init_0 : decode cJ30_init 0 = .ok (.aload_n 0, 1) := by decide +kernel
theorem dJ30_init_1 : decode cJ30_init 1 = .ok (.invokespecial 1, 3) := by decide +kernel
theorem dJ30_init_4 : decode cJ30_init 4 = .ok (.return_, 1) := by decide +kernel
abbrev cJ30_init_2 : ByteArray := prog_55_method_2_code
def yJ30_init_2 : MethodName := ⟨RJ30, "<init>", "(Ljava/lang/String;)V"⟩
def dkwJ30_init_2_0 : List UInt8 := [42, 43, 183, 0, 7, 177]
abbrev dktJ30_init_2_0 : List UInt8 := dkwJ30_init_2_0 ++ []
theorem dksJ30_init_2_0 : cJ30_init_2.data.toList.drop 0 = dktJ30_init_2_0 := by decide +kernel
theorem dJ30_init_2_0 : decode cJ30_init_2 0 = .ok (.aload_n 0, 1) := dk_42 (dk_at dksJ30_init_2_0 0 rfl rfl)
theorem dJ30_init_2_1 : decode cJ30_init_2 1 = .ok (.aload_n 1, 1) := dk_43 (dk_at dksJ30_init_2_0 1 rfl rfl)
theorem dJ30_init_2_2 : decode cJ30_init_2 2 = .ok (.invokespecial 7, 3) := dk_183 0 7 (dk_at dksJ30_init_2_0 2 rfl rfl)
theorem dJ30_init_2_5 : decode cJ30_init_2 5 = .ok (.return_, 1) := dk_177 (dk_at dksJ30_init_2_0 5 rfl rfl)
theorem q174 : (Jvm.Cond.initialized "java/lang/IndexOutOfBoundsException") ∈ lw_all := lw_g (lw_at lw_m1 63 rfl) rfl
theorem q573 : (Jvm.Cond.selects "java/lang/IndexOutOfBoundsException" ({ cls := "java/lang/Throwable", name := "fillInStackTrace", desc := "()Ljava/lang/Throwable;" } : Jvm.MethodName) ({ cls := "java/lang/Throwable", name := "fillInStackTrace", desc := "()Ljava/lang/Throwable;" } : Jvm.MethodName)) ∈ lw_all := lw_g (lw_at lw_m2 222 rfl) rfl
theorem q842 : (Jvm.Cond.selects "java/lang/IndexOutOfBoundsException" ({ cls := "java/lang/Object", name := "getClass", desc := "()Ljava/lang/Class;" } : Jvm.MethodName) ({ cls := "java/lang/Object", name := "getClass", desc := "()Ljava/lang/Class;" } : Jvm.MethodName)) ∈ lw_all := lw_g (lw_at lw_m4 11 rfl) rfl
theorem q1071 : (Jvm.Cond.selects "java/lang/IndexOutOfBoundsException" ({ cls := "java/lang/Object", name := "hashCode", desc := "()I" } : Jvm.MethodName) ({ cls := "java/lang/Object", name := "hashCode", desc := "()I" } : Jvm.MethodName)) ∈ lw_all := lw_g (lw_at lw_m5 0 rfl) rfl
theorem q1183 : (Jvm.Cond.selects "java/lang/IndexOutOfBoundsException" ({ cls := "java/lang/Object", name := "equals", desc := "(Ljava/lang/Object;)Z" } : Jvm.MethodName) ({ cls := "java/lang/Object", name := "equals", desc := "(Ljava/lang/Object;)Z" } : Jvm.MethodName)) ∈ lw_all := lw_g (lw_at lw_m5 112 rfl) rfl
theorem q2368 : (Jvm.Cond.instantiable "java/lang/IndexOutOfBoundsException" (6 : Nat)) ∈ lw_all := lw_g (lw_at lw_m10 97 rfl) rfl
theorem q2369 : (Jvm.Cond.castable "java/lang/IndexOutOfBoundsException" "java/lang/IndexOutOfBoundsException") ∈ lw_tbl := lw_at lw_m10 98 rfl
theorem q2370 : (Jvm.Cond.selects "java/lang/IndexOutOfBoundsException" ({ cls := "java/lang/Throwable", name := "fillInStackTrace", desc := "(I)Ljava/lang/Throwable;" } : Jvm.MethodName) ({ cls := "java/lang/Throwable", name := "fillInStackTrace", desc := "(I)Ljava/lang/Throwable;" } : Jvm.MethodName)) ∈ lw_all := lw_g (lw_at lw_m10 99 rfl) rfl
theorem q2371 : (Jvm.Cond.lays "java/lang/IndexOutOfBoundsException" "java/lang/Throwable" "cause" "Ljava/lang/Throwable;") ∈ lw_all := lw_g (lw_at lw_m10 100 rfl) rfl
theorem q2372 : (Jvm.Cond.lays "java/lang/IndexOutOfBoundsException" "java/lang/Throwable" "stackTrace" "[Ljava/lang/StackTraceElement;") ∈ lw_all := lw_g (lw_at lw_m10 101 rfl) rfl
theorem q2373 : (Jvm.Cond.lays "java/lang/IndexOutOfBoundsException" "java/lang/Throwable" "suppressedExceptions" "Ljava/util/List;") ∈ lw_all := lw_g (lw_at lw_m10 102 rfl) rfl
theorem q2374 : (Jvm.Cond.lays "java/lang/IndexOutOfBoundsException" "java/lang/Throwable" "detailMessage" "Ljava/lang/String;") ∈ lw_all := lw_g (lw_at lw_m10 103 rfl) rfl
theorem q2375 : (Jvm.Cond.lays "java/lang/IndexOutOfBoundsException" "java/lang/Throwable" "backtrace" "Ljava/lang/Object;") ∈ lw_all := lw_g (lw_at lw_m10 104 rfl) rfl
theorem q2377 : (Jvm.Cond.instanceMethod ({ cls := "java/lang/IndexOutOfBoundsException", name := "<init>", desc := "()V" } : Jvm.MethodName)) ∈ lw_all := lw_g (lw_at lw_m10 106 rfl) rfl
theorem q2378 : (Jvm.Cond.code ({ cls := "java/lang/IndexOutOfBoundsException", name := "<init>", desc := "()V" } : Jvm.MethodName) prog_55_method_1_code (1 : Nat) (Option.none : Option Jvm.ClassFile.FieldType)) ∈ lw_all := lw_g (lw_at lw_m10 107 rfl) rfl
theorem q2379 : (Jvm.Cond.methodLink "java/lang/IndexOutOfBoundsException" (1 : Nat) ({ cls := "java/lang/RuntimeException", name := "<init>", desc := "()V" } : Jvm.MethodName)) ∈ lw_all := lw_g (lw_at lw_m10 108 rfl) rfl
theorem q2383 : (Jvm.Cond.lays "java/lang/IndexOutOfBoundsException" "java/lang/Throwable" "depth" "I") ∈ lw_all := lw_g (lw_at lw_m10 112 rfl) rfl
theorem q2384 : (Jvm.Cond.superclass "java/lang/IndexOutOfBoundsException" "java/lang/RuntimeException") ∈ lw_all := lw_g (lw_at lw_m10 113 rfl) rfl
theorem q2552 : (Jvm.Cond.instanceMethod ({ cls := "java/lang/IndexOutOfBoundsException", name := "<init>", desc := "(Ljava/lang/String;)V" } : Jvm.MethodName)) ∈ lw_all := lw_g (lw_at lw_m11 41 rfl) rfl
theorem q2553 : (Jvm.Cond.code ({ cls := "java/lang/IndexOutOfBoundsException", name := "<init>", desc := "(Ljava/lang/String;)V" } : Jvm.MethodName) prog_55_method_2_code (2 : Nat) (Option.none : Option Jvm.ClassFile.FieldType)) ∈ lw_all := lw_g (lw_at lw_m11 42 rfl) rfl
theorem q2554 : (Jvm.Cond.methodLink "java/lang/IndexOutOfBoundsException" (7 : Nat) ({ cls := "java/lang/RuntimeException", name := "<init>", desc := "(Ljava/lang/String;)V" } : Jvm.MethodName)) ∈ lw_all := lw_g (lw_at lw_m11 43 rfl) rfl
theorem q2563 : (Jvm.Cond.declares ({ cls := "java/lang/IndexOutOfBoundsException", name := "<init>", desc := "()V" } : Jvm.MethodName)) ∈ lw_tbl := lw_at lw_m11 52 rfl
theorem q2564 : (Jvm.Cond.declares ({ cls := "java/lang/IndexOutOfBoundsException", name := "<init>", desc := "(Ljava/lang/String;)V" } : Jvm.MethodName)) ∈ lw_tbl := lw_at lw_m11 53 rfl
theorem q3375 : (Jvm.Cond.castable "java/lang/IndexOutOfBoundsException" "java/lang/Object") ∈ lw_tbl := lw_at lw_m14 144 rfl
theorem in_J30 : ∀ w ∈ wsJ300, w ∈ lw_all := lw_in wsJ300 [2371, 2372, 2373, 2374, 2375, 2383] (by decide +kernel) (by decide +kernel)

/-! java/lang/ArrayIndexOutOfBoundsException -/
set_option maxRecDepth 100000
def RJ31 : String := "java/lang/ArrayIndexOutOfBoundsException"
def TJ31 : u_T := fun k => match k with
  | 0 => ("java/lang/Throwable", "backtrace", "Ljava/lang/Object;", false)
  | 1 => ("java/lang/Throwable", "detailMessage", "Ljava/lang/String;", false)
  | 2 => ("java/lang/Throwable", "cause", "Ljava/lang/Throwable;", false)
  | 3 => ("java/lang/Throwable", "stackTrace", "[Ljava/lang/StackTraceElement;", false)
  | 4 => ("java/lang/Throwable", "depth", "I", false)
  | _ => ("java/lang/Throwable", "suppressedExceptions", "Ljava/util/List;", false)
def tyJ31 : Nat → FieldType := fun k => match k with
  | 0 => .object "java/lang/Object"
  | 1 => .object "java/lang/String"
  | 2 => .object "java/lang/Throwable"
  | 3 => .array (.object "java/lang/StackTraceElement")
  | 4 => .int
  | _ => .object "java/util/List"
abbrev wsJ310 : List Cond := u_ws RJ31 TJ31 6
theorem nmJ31 : ∀ a, a < 6 → ∀ b, b < 6 → a ≠ b → (TJ31 a).2.1 ≠ (TJ31 b).2.1 := by decide +kernel
theorem tyJ31_ok : ∀ k, k < 6 → parseFieldDescriptor (TJ31 k).2.2.1 = some (tyJ31 k) := by decide +kernel
abbrev cJ31_init : ByteArray := prog_46_method_2_code
def yJ31_init : MethodName := ⟨RJ31, "<init>", "(Ljava/lang/String;)V"⟩
def dkwJ31_init_0 : List UInt8 := [42, 43, 183, 0, 7, 177]
abbrev dktJ31_init_0 : List UInt8 := dkwJ31_init_0 ++ []
theorem dksJ31_init_0 : cJ31_init.data.toList.drop 0 = dktJ31_init_0 := by decide +kernel
theorem dJ31_init_0 : decode cJ31_init 0 = .ok (.aload_n 0, 1) := dk_42 (dk_at dksJ31_init_0 0 rfl rfl)
theorem dJ31_init_1 : decode cJ31_init 1 = .ok (.aload_n 1, 1) := dk_43 (dk_at dksJ31_init_0 1 rfl rfl)
theorem dJ31_init_2 : decode cJ31_init 2 = .ok (.invokespecial 7, 3) := dk_183 0 7 (dk_at dksJ31_init_0 2 rfl rfl)
theorem dJ31_init_5 : decode cJ31_init 5 = .ok (.return_, 1) := dk_177 (dk_at dksJ31_init_0 5 rfl rfl)
theorem q175 : (Jvm.Cond.initialized "java/lang/ArrayIndexOutOfBoundsException") ∈ lw_all := lw_g (lw_at lw_m1 64 rfl) rfl
theorem q571 : (Jvm.Cond.selects "java/lang/ArrayIndexOutOfBoundsException" ({ cls := "java/lang/Throwable", name := "fillInStackTrace", desc := "()Ljava/lang/Throwable;" } : Jvm.MethodName) ({ cls := "java/lang/Throwable", name := "fillInStackTrace", desc := "()Ljava/lang/Throwable;" } : Jvm.MethodName)) ∈ lw_all := lw_g (lw_at lw_m2 220 rfl) rfl
theorem q839 : (Jvm.Cond.selects "java/lang/ArrayIndexOutOfBoundsException" ({ cls := "java/lang/Object", name := "getClass", desc := "()Ljava/lang/Class;" } : Jvm.MethodName) ({ cls := "java/lang/Object", name := "getClass", desc := "()Ljava/lang/Class;" } : Jvm.MethodName)) ∈ lw_all := lw_g (lw_at lw_m4 8 rfl) rfl
theorem q1068 : (Jvm.Cond.selects "java/lang/ArrayIndexOutOfBoundsException" ({ cls := "java/lang/Object", name := "hashCode", desc := "()I" } : Jvm.MethodName) ({ cls := "java/lang/Object", name := "hashCode", desc := "()I" } : Jvm.MethodName)) ∈ lw_all := lw_g (lw_at lw_m4 237 rfl) rfl
theorem q1180 : (Jvm.Cond.selects "java/lang/ArrayIndexOutOfBoundsException" ({ cls := "java/lang/Object", name := "equals", desc := "(Ljava/lang/Object;)Z" } : Jvm.MethodName) ({ cls := "java/lang/Object", name := "equals", desc := "(Ljava/lang/Object;)Z" } : Jvm.MethodName)) ∈ lw_all := lw_g (lw_at lw_m5 109 rfl) rfl
theorem q2548 : (Jvm.Cond.instantiable "java/lang/ArrayIndexOutOfBoundsException" (6 : Nat)) ∈ lw_all := lw_g (lw_at lw_m11 37 rfl) rfl
theorem q2549 : (Jvm.Cond.instanceMethod ({ cls := "java/lang/ArrayIndexOutOfBoundsException", name := "<init>", desc := "(Ljava/lang/String;)V" } : Jvm.MethodName)) ∈ lw_all := lw_g (lw_at lw_m11 38 rfl) rfl
theorem q2550 : (Jvm.Cond.code ({ cls := "java/lang/ArrayIndexOutOfBoundsException", name := "<init>", desc := "(Ljava/lang/String;)V" } : Jvm.MethodName) prog_46_method_2_code (2 : Nat) (Option.none : Option Jvm.ClassFile.FieldType)) ∈ lw_all := lw_g (lw_at lw_m11 39 rfl) rfl
theorem q2551 : (Jvm.Cond.methodLink "java/lang/ArrayIndexOutOfBoundsException" (7 : Nat) ({ cls := "java/lang/IndexOutOfBoundsException", name := "<init>", desc := "(Ljava/lang/String;)V" } : Jvm.MethodName)) ∈ lw_all := lw_g (lw_at lw_m11 40 rfl) rfl
theorem q2555 : (Jvm.Cond.lays "java/lang/ArrayIndexOutOfBoundsException" "java/lang/Throwable" "backtrace" "Ljava/lang/Object;") ∈ lw_all := lw_g (lw_at lw_m11 44 rfl) rfl
theorem q2556 : (Jvm.Cond.lays "java/lang/ArrayIndexOutOfBoundsException" "java/lang/Throwable" "detailMessage" "Ljava/lang/String;") ∈ lw_all := lw_g (lw_at lw_m11 45 rfl) rfl
theorem q2557 : (Jvm.Cond.lays "java/lang/ArrayIndexOutOfBoundsException" "java/lang/Throwable" "cause" "Ljava/lang/Throwable;") ∈ lw_all := lw_g (lw_at lw_m11 46 rfl) rfl
theorem q2558 : (Jvm.Cond.lays "java/lang/ArrayIndexOutOfBoundsException" "java/lang/Throwable" "stackTrace" "[Ljava/lang/StackTraceElement;") ∈ lw_all := lw_g (lw_at lw_m11 47 rfl) rfl
theorem q2559 : (Jvm.Cond.lays "java/lang/ArrayIndexOutOfBoundsException" "java/lang/Throwable" "depth" "I") ∈ lw_all := lw_g (lw_at lw_m11 48 rfl) rfl
theorem q2560 : (Jvm.Cond.lays "java/lang/ArrayIndexOutOfBoundsException" "java/lang/Throwable" "suppressedExceptions" "Ljava/util/List;") ∈ lw_all := lw_g (lw_at lw_m11 49 rfl) rfl
theorem q2561 : (Jvm.Cond.superclass "java/lang/ArrayIndexOutOfBoundsException" "java/lang/IndexOutOfBoundsException") ∈ lw_all := lw_g (lw_at lw_m11 50 rfl) rfl
theorem q2562 : (Jvm.Cond.castable "java/lang/ArrayIndexOutOfBoundsException" "java/lang/ArrayIndexOutOfBoundsException") ∈ lw_tbl := lw_at lw_m11 51 rfl
theorem q2565 : (Jvm.Cond.selects "java/lang/ArrayIndexOutOfBoundsException" ({ cls := "java/lang/Throwable", name := "fillInStackTrace", desc := "(I)Ljava/lang/Throwable;" } : Jvm.MethodName) ({ cls := "java/lang/Throwable", name := "fillInStackTrace", desc := "(I)Ljava/lang/Throwable;" } : Jvm.MethodName)) ∈ lw_all := lw_g (lw_at lw_m11 54 rfl) rfl
theorem q3305 : (Jvm.Cond.castable "java/lang/ArrayIndexOutOfBoundsException" "java/lang/IndexOutOfBoundsException") ∈ lw_tbl := lw_at lw_m14 74 rfl
theorem q3374 : (Jvm.Cond.castable "java/lang/ArrayIndexOutOfBoundsException" "java/lang/Object") ∈ lw_tbl := lw_at lw_m14 143 rfl
theorem in_J31 : ∀ w ∈ wsJ310, w ∈ lw_all := lw_in wsJ310 [2555, 2556, 2557, 2558, 2559, 2560] (by decide +kernel) (by decide +kernel)

