/-! GridTableModel$Sheet -/
set_option maxRecDepth 100000
def RX5 : String := "GridTableModel$Sheet"
def TX5 : u_T := fun k => match k with
  | 0 => ("GridTableModel$Sheet", "kind", "[I", true)
  | 1 => ("GridTableModel$Sheet", "from", "[I", true)
  | 2 => ("GridTableModel$Sheet", "many", "[I", true)
  | 3 => ("GridTableModel$Sheet", "means", "[I", true)
  | 4 => ("GridTableModel$Sheet", "points", "I", false)
  | 5 => ("GridTableModel$Sheet", "pointName", "[Ljava/lang/String;", true)
  | 6 => ("GridTableModel$Sheet", "shapes", "I", false)
  | 7 => ("GridTableModel$Sheet", "shapeName", "[Ljava/lang/String;", true)
  | 8 => ("GridTableModel$Sheet", "corners", "[I", true)
  | 9 => ("GridTableModel$Sheet", "corner", "[I", true)
  | 10 => ("GridTableModel$Sheet", "steps", "I", false)
  | 11 => ("GridTableModel$Sheet", "step", "[I", true)
  | _ => ("GridTableModel$Sheet", "line", "I", false)
def tyX5 : Nat → FieldType := fun k => match k with
  | 0 => .array .int
  | 1 => .array .int
  | 2 => .array .int
  | 3 => .array .int
  | 4 => .int
  | 5 => .array (.object "java/lang/String")
  | 6 => .int
  | 7 => .array (.object "java/lang/String")
  | 8 => .array .int
  | 9 => .array .int
  | 10 => .int
  | 11 => .array .int
  | _ => .int
abbrev wsX50 : List Cond := u_ws RX5 TX5 13
set_option maxRecDepth 100000 in
theorem nmX5 : ∀ a, a < 13 → ∀ b, b < 13 → a ≠ b → (TX5 a).2.1 ≠ (TX5 b).2.1 := by decide +kernel
set_option maxRecDepth 100000 in
theorem tyX5_ok : ∀ k, k < 13 → parseFieldDescriptor (TX5 k).2.2.1 = some (tyX5 k) := by decide +kernel
abbrev cX5_init : ByteArray := prog_42_method_1_code
def yX5_init : MethodName := ⟨RX5, "<init>", "()V"⟩
def dkwX5_init_3 : List UInt8 := [188, 10, 181, 0, 36, 42, 16, 20, 188, 10, 181, 0, 39, 177]
abbrev dktX5_init_3 : List UInt8 := dkwX5_init_3 ++ []
def dkwX5_init_2 : List UInt8 := [181, 0, 26, 42, 16, 8, 189, 0, 24, 181, 0, 30, 42, 16, 8, 188, 10, 181, 0, 33, 42, 16, 64]
abbrev dktX5_init_2 : List UInt8 := dkwX5_init_2 ++ dktX5_init_3
def dkwX5_init_1 : List UInt8 := [17, 1, 145, 188, 10, 181, 0, 18, 42, 17, 1, 145, 188, 10, 181, 0, 21, 42, 16, 16, 189, 0, 24]
abbrev dktX5_init_1 : List UInt8 := dkwX5_init_1 ++ dktX5_init_2
def dkwX5_init_0 : List UInt8 := [42, 183, 0, 3, 42, 17, 1, 145, 188, 10, 181, 0, 9, 42, 17, 1, 145, 188, 10, 181, 0, 15, 42]
abbrev dktX5_init_0 : List UInt8 := dkwX5_init_0 ++ dktX5_init_1
theorem dksX5_init_0 : cX5_init.data.toList.drop 0 = dktX5_init_0 := by decide +kernel
theorem dksX5_init_1 : cX5_init.data.toList.drop 23 = dktX5_init_1 := dk_seg dksX5_init_0 23 rfl rfl
theorem dksX5_init_2 : cX5_init.data.toList.drop 46 = dktX5_init_2 := dk_seg dksX5_init_1 23 rfl rfl
theorem dksX5_init_3 : cX5_init.data.toList.drop 69 = dktX5_init_3 := dk_seg dksX5_init_2 23 rfl rfl
theorem dX5_init_0 : decode cX5_init 0 = .ok (.aload_n 0, 1) := dk_42 (dk_at dksX5_init_0 0 rfl rfl)
theorem dX5_init_1 : decode cX5_init 1 = .ok (.invokespecial 3, 3) := dk_183 0 3 (dk_at dksX5_init_0 1 rfl rfl)
theorem dX5_init_4 : decode cX5_init 4 = .ok (.aload_n 0, 1) := dk_42 (dk_at dksX5_init_0 4 rfl rfl)
theorem dX5_init_5 : decode cX5_init 5 = .ok (.sipush 401, 3) := dk_17 1 145 (dk_at dksX5_init_0 5 rfl rfl)
theorem dX5_init_8 : decode cX5_init 8 = .ok (.newarray .int, 2) := dk_188_10 (dk_at dksX5_init_0 8 rfl rfl)
theorem dX5_init_10 : decode cX5_init 10 = .ok (.putfield 9, 3) := dk_181 0 9 (dk_at dksX5_init_0 10 rfl rfl)
theorem dX5_init_13 : decode cX5_init 13 = .ok (.aload_n 0, 1) := dk_42 (dk_at dksX5_init_0 13 rfl rfl)
theorem dX5_init_14 : decode cX5_init 14 = .ok (.sipush 401, 3) := dk_17 1 145 (dk_at dksX5_init_0 14 rfl rfl)
theorem dX5_init_17 : decode cX5_init 17 = .ok (.newarray .int, 2) := dk_188_10 (dk_at dksX5_init_0 17 rfl rfl)
theorem dX5_init_19 : decode cX5_init 19 = .ok (.putfield 15, 3) := dk_181 0 15 (dk_at dksX5_init_0 19 rfl rfl)
theorem dX5_init_22 : decode cX5_init 22 = .ok (.aload_n 0, 1) := dk_42 (dk_at dksX5_init_0 22 rfl rfl)
theorem dX5_init_23 : decode cX5_init 23 = .ok (.sipush 401, 3) := dk_17 1 145 (dk_at dksX5_init_1 0 rfl rfl)
theorem dX5_init_26 : decode cX5_init 26 = .ok (.newarray .int, 2) := dk_188_10 (dk_at dksX5_init_1 3 rfl rfl)
theorem dX5_init_28 : decode cX5_init 28 = .ok (.putfield 18, 3) := dk_181 0 18 (dk_at dksX5_init_1 5 rfl rfl)
theorem dX5_init_31 : decode cX5_init 31 = .ok (.aload_n 0, 1) := dk_42 (dk_at dksX5_init_1 8 rfl rfl)
theorem dX5_init_32 : decode cX5_init 32 = .ok (.sipush 401, 3) := dk_17 1 145 (dk_at dksX5_init_1 9 rfl rfl)
theorem dX5_init_35 : decode cX5_init 35 = .ok (.newarray .int, 2) := dk_188_10 (dk_at dksX5_init_1 12 rfl rfl)
theorem dX5_init_37 : decode cX5_init 37 = .ok (.putfield 21, 3) := dk_181 0 21 (dk_at dksX5_init_1 14 rfl rfl)
theorem dX5_init_40 : decode cX5_init 40 = .ok (.aload_n 0, 1) := dk_42 (dk_at dksX5_init_1 17 rfl rfl)
theorem dX5_init_41 : decode cX5_init 41 = .ok (.bipush 16, 2) := dk_16 16 (dk_at dksX5_init_1 18 rfl rfl)
theorem dX5_init_43 : decode cX5_init 43 = .ok (.anewarray 24, 3) := dk_189 0 24 (dk_at dksX5_init_1 20 rfl rfl)
theorem dX5_init_46 : decode cX5_init 46 = .ok (.putfield 26, 3) := dk_181 0 26 (dk_at dksX5_init_2 0 rfl rfl)
theorem dX5_init_49 : decode cX5_init 49 = .ok (.aload_n 0, 1) := dk_42 (dk_at dksX5_init_2 3 rfl rfl)
theorem dX5_init_50 : decode cX5_init 50 = .ok (.bipush 8, 2) := dk_16 8 (dk_at dksX5_init_2 4 rfl rfl)
theorem dX5_init_52 : decode cX5_init 52 = .ok (.anewarray 24, 3) := dk_189 0 24 (dk_at dksX5_init_2 6 rfl rfl)
theorem dX5_init_55 : decode cX5_init 55 = .ok (.putfield 30, 3) := dk_181 0 30 (dk_at dksX5_init_2 9 rfl rfl)
theorem dX5_init_58 : decode cX5_init 58 = .ok (.aload_n 0, 1) := dk_42 (dk_at dksX5_init_2 12 rfl rfl)
theorem dX5_init_59 : decode cX5_init 59 = .ok (.bipush 8, 2) := dk_16 8 (dk_at dksX5_init_2 13 rfl rfl)
theorem dX5_init_61 : decode cX5_init 61 = .ok (.newarray .int, 2) := dk_188_10 (dk_at dksX5_init_2 15 rfl rfl)
theorem dX5_init_63 : decode cX5_init 63 = .ok (.putfield 33, 3) := dk_181 0 33 (dk_at dksX5_init_2 17 rfl rfl)
theorem dX5_init_66 : decode cX5_init 66 = .ok (.aload_n 0, 1) := dk_42 (dk_at dksX5_init_2 20 rfl rfl)
theorem dX5_init_67 : decode cX5_init 67 = .ok (.bipush 64, 2) := dk_16 64 (dk_at dksX5_init_2 21 rfl rfl)
theorem dX5_init_69 : decode cX5_init 69 = .ok (.newarray .int, 2) := dk_188_10 (dk_at dksX5_init_3 0 rfl rfl)
theorem dX5_init_71 : decode cX5_init 71 = .ok (.putfield 36, 3) := dk_181 0 36 (dk_at dksX5_init_3 2 rfl rfl)
theorem dX5_init_74 : decode cX5_init 74 = .ok (.aload_n 0, 1) := dk_42 (dk_at dksX5_init_3 5 rfl rfl)
theorem dX5_init_75 : decode cX5_init 75 = .ok (.bipush 20, 2) := dk_16 20 (dk_at dksX5_init_3 6 rfl rfl)
theorem dX5_init_77 : decode cX5_init 77 = .ok (.newarray .int, 2) := dk_188_10 (dk_at dksX5_init_3 8 rfl rfl)
theorem dX5_init_79 : decode cX5_init 79 = .ok (.putfield 39, 3) := dk_181 0 39 (dk_at dksX5_init_3 10 rfl rfl)
theorem dX5_init_82 : decode cX5_init 82 = .ok (.return_, 1) := dk_177 (dk_at dksX5_init_3 13 rfl rfl)
theorem q119 : (Jvm.Cond.initialized "GridTableModel$Sheet") ∈ lw_all := lw_g (lw_at lw_m1 8 rfl) rfl
theorem q838 : (Jvm.Cond.selects "GridTableModel$Sheet" ({ cls := "java/lang/Object", name := "getClass", desc := "()Ljava/lang/Class;" } : Jvm.MethodName) ({ cls := "java/lang/Object", name := "getClass", desc := "()Ljava/lang/Class;" } : Jvm.MethodName)) ∈ lw_all := lw_g (lw_at lw_m4 7 rfl) rfl
theorem q1067 : (Jvm.Cond.selects "GridTableModel$Sheet" ({ cls := "java/lang/Object", name := "hashCode", desc := "()I" } : Jvm.MethodName) ({ cls := "java/lang/Object", name := "hashCode", desc := "()I" } : Jvm.MethodName)) ∈ lw_all := lw_g (lw_at lw_m4 236 rfl) rfl
theorem q1179 : (Jvm.Cond.selects "GridTableModel$Sheet" ({ cls := "java/lang/Object", name := "equals", desc := "(Ljava/lang/Object;)Z" } : Jvm.MethodName) ({ cls := "java/lang/Object", name := "equals", desc := "(Ljava/lang/Object;)Z" } : Jvm.MethodName)) ∈ lw_all := lw_g (lw_at lw_m5 108 rfl) rfl
theorem q2720 : (Jvm.Cond.instantiable "GridTableModel$Sheet" (13 : Nat)) ∈ lw_all := lw_g (lw_at lw_m11 209 rfl) rfl
theorem q2722 : (Jvm.Cond.instanceMethod ({ cls := "GridTableModel$Sheet", name := "<init>", desc := "()V" } : Jvm.MethodName)) ∈ lw_all := lw_g (lw_at lw_m11 211 rfl) rfl
theorem q2723 : (Jvm.Cond.code ({ cls := "GridTableModel$Sheet", name := "<init>", desc := "()V" } : Jvm.MethodName) prog_42_method_1_code (1 : Nat) (Option.none : Option Jvm.ClassFile.FieldType)) ∈ lw_all := lw_g (lw_at lw_m11 212 rfl) rfl
theorem q2724 : (Jvm.Cond.methodLink "GridTableModel$Sheet" (3 : Nat) ({ cls := "java/lang/Object", name := "<init>", desc := "()V" } : Jvm.MethodName)) ∈ lw_all := lw_g (lw_at lw_m11 213 rfl) rfl
theorem q2725 : (Jvm.Cond.classLink "GridTableModel$Sheet" (24 : Nat) "java/lang/String") ∈ lw_all := lw_g (lw_at lw_m11 214 rfl) rfl
theorem q2727 : (Jvm.Cond.fieldLink "GridTableModel$Sheet" (9 : Nat) "GridTableModel$Sheet" "kind" "[I") ∈ lw_all := lw_g (lw_at lw_m11 216 rfl) rfl
theorem q2729 : (Jvm.Cond.fieldLink "GridTableModel$Sheet" (15 : Nat) "GridTableModel$Sheet" "from" "[I") ∈ lw_all := lw_g (lw_at lw_m11 218 rfl) rfl
theorem q2731 : (Jvm.Cond.fieldLink "GridTableModel$Sheet" (18 : Nat) "GridTableModel$Sheet" "many" "[I") ∈ lw_all := lw_g (lw_at lw_m11 220 rfl) rfl
theorem q2733 : (Jvm.Cond.fieldLink "GridTableModel$Sheet" (21 : Nat) "GridTableModel$Sheet" "means" "[I") ∈ lw_all := lw_g (lw_at lw_m11 222 rfl) rfl
theorem q2736 : (Jvm.Cond.fieldLink "GridTableModel$Sheet" (26 : Nat) "GridTableModel$Sheet" "pointName" "[Ljava/lang/String;") ∈ lw_all := lw_g (lw_at lw_m11 225 rfl) rfl
theorem q2739 : (Jvm.Cond.fieldLink "GridTableModel$Sheet" (30 : Nat) "GridTableModel$Sheet" "shapeName" "[Ljava/lang/String;") ∈ lw_all := lw_g (lw_at lw_m11 228 rfl) rfl
theorem q2741 : (Jvm.Cond.fieldLink "GridTableModel$Sheet" (33 : Nat) "GridTableModel$Sheet" "corners" "[I") ∈ lw_all := lw_g (lw_at lw_m11 230 rfl) rfl
theorem q2743 : (Jvm.Cond.fieldLink "GridTableModel$Sheet" (36 : Nat) "GridTableModel$Sheet" "corner" "[I") ∈ lw_all := lw_g (lw_at lw_m11 232 rfl) rfl
theorem q2746 : (Jvm.Cond.fieldLink "GridTableModel$Sheet" (39 : Nat) "GridTableModel$Sheet" "step" "[I") ∈ lw_all := lw_g (lw_at lw_m11 235 rfl) rfl
theorem q2749 : (Jvm.Cond.laysFinal "GridTableModel$Sheet" "GridTableModel$Sheet" "kind" "[I") ∈ lw_all := lw_g (lw_at lw_m11 238 rfl) rfl
theorem q2750 : (Jvm.Cond.soleField "GridTableModel$Sheet" "kind") ∈ lw_all := lw_g (lw_at lw_m11 239 rfl) rfl
theorem q2751 : (Jvm.Cond.laysFinal "GridTableModel$Sheet" "GridTableModel$Sheet" "from" "[I") ∈ lw_all := lw_g (lw_at lw_m12 0 rfl) rfl
theorem q2752 : (Jvm.Cond.soleField "GridTableModel$Sheet" "from") ∈ lw_all := lw_g (lw_at lw_m12 1 rfl) rfl
theorem q2753 : (Jvm.Cond.laysFinal "GridTableModel$Sheet" "GridTableModel$Sheet" "many" "[I") ∈ lw_all := lw_g (lw_at lw_m12 2 rfl) rfl
theorem q2754 : (Jvm.Cond.soleField "GridTableModel$Sheet" "many") ∈ lw_all := lw_g (lw_at lw_m12 3 rfl) rfl
theorem q2755 : (Jvm.Cond.laysFinal "GridTableModel$Sheet" "GridTableModel$Sheet" "means" "[I") ∈ lw_all := lw_g (lw_at lw_m12 4 rfl) rfl
theorem q2756 : (Jvm.Cond.soleField "GridTableModel$Sheet" "means") ∈ lw_all := lw_g (lw_at lw_m12 5 rfl) rfl
theorem q2757 : (Jvm.Cond.lays "GridTableModel$Sheet" "GridTableModel$Sheet" "points" "I") ∈ lw_all := lw_g (lw_at lw_m12 6 rfl) rfl
theorem q2758 : (Jvm.Cond.soleField "GridTableModel$Sheet" "points") ∈ lw_all := lw_g (lw_at lw_m12 7 rfl) rfl
theorem q2759 : (Jvm.Cond.laysFinal "GridTableModel$Sheet" "GridTableModel$Sheet" "pointName" "[Ljava/lang/String;") ∈ lw_all := lw_g (lw_at lw_m12 8 rfl) rfl
theorem q2760 : (Jvm.Cond.soleField "GridTableModel$Sheet" "pointName") ∈ lw_all := lw_g (lw_at lw_m12 9 rfl) rfl
theorem q2761 : (Jvm.Cond.lays "GridTableModel$Sheet" "GridTableModel$Sheet" "shapes" "I") ∈ lw_all := lw_g (lw_at lw_m12 10 rfl) rfl
theorem q2762 : (Jvm.Cond.soleField "GridTableModel$Sheet" "shapes") ∈ lw_all := lw_g (lw_at lw_m12 11 rfl) rfl
theorem q2763 : (Jvm.Cond.laysFinal "GridTableModel$Sheet" "GridTableModel$Sheet" "shapeName" "[Ljava/lang/String;") ∈ lw_all := lw_g (lw_at lw_m12 12 rfl) rfl
theorem q2764 : (Jvm.Cond.soleField "GridTableModel$Sheet" "shapeName") ∈ lw_all := lw_g (lw_at lw_m12 13 rfl) rfl
theorem q2765 : (Jvm.Cond.laysFinal "GridTableModel$Sheet" "GridTableModel$Sheet" "corners" "[I") ∈ lw_all := lw_g (lw_at lw_m12 14 rfl) rfl
theorem q2766 : (Jvm.Cond.soleField "GridTableModel$Sheet" "corners") ∈ lw_all := lw_g (lw_at lw_m12 15 rfl) rfl
theorem q2767 : (Jvm.Cond.laysFinal "GridTableModel$Sheet" "GridTableModel$Sheet" "corner" "[I") ∈ lw_all := lw_g (lw_at lw_m12 16 rfl) rfl
theorem q2768 : (Jvm.Cond.soleField "GridTableModel$Sheet" "corner") ∈ lw_all := lw_g (lw_at lw_m12 17 rfl) rfl
theorem q2769 : (Jvm.Cond.lays "GridTableModel$Sheet" "GridTableModel$Sheet" "steps" "I") ∈ lw_all := lw_g (lw_at lw_m12 18 rfl) rfl
theorem q2770 : (Jvm.Cond.soleField "GridTableModel$Sheet" "steps") ∈ lw_all := lw_g (lw_at lw_m12 19 rfl) rfl
theorem q2771 : (Jvm.Cond.laysFinal "GridTableModel$Sheet" "GridTableModel$Sheet" "step" "[I") ∈ lw_all := lw_g (lw_at lw_m12 20 rfl) rfl
theorem q2772 : (Jvm.Cond.soleField "GridTableModel$Sheet" "step") ∈ lw_all := lw_g (lw_at lw_m12 21 rfl) rfl
theorem q2773 : (Jvm.Cond.lays "GridTableModel$Sheet" "GridTableModel$Sheet" "line" "I") ∈ lw_all := lw_g (lw_at lw_m12 22 rfl) rfl
theorem q2774 : (Jvm.Cond.soleField "GridTableModel$Sheet" "line") ∈ lw_all := lw_g (lw_at lw_m12 23 rfl) rfl
theorem q2775 : (Jvm.Cond.superclass "GridTableModel$Sheet" "java/lang/Object") ∈ lw_all := lw_g (lw_at lw_m12 24 rfl) rfl
theorem q3334 : (Jvm.Cond.castable "GridTableModel$Sheet" "java/lang/Object") ∈ lw_tbl := lw_at lw_m14 103 rfl
theorem in_X5 : ∀ w ∈ wsX50, w ∈ lw_all := lw_in wsX50 [2749, 2751, 2753, 2755, 2757, 2759, 2761, 2763, 2765, 2767, 2769, 2771, 2773] (by decide +kernel) (by decide +kernel)

/-! GridTableModel$Places -/
set_option maxRecDepth 100000
def RX6 : String := "GridTableModel$Places"
def TX6 : u_T := fun k => match k with
  | 0 => ("GridTableModel$Places", "x", "[I", true)
  | _ => ("GridTableModel$Places", "y", "[I", true)
def tyX6 : Nat → FieldType := fun k => match k with
  | 0 => .array .int
  | _ => .array .int
abbrev wsX60 : List Cond := u_ws RX6 TX6 2
theorem nmX6 : ∀ a, a < 2 → ∀ b, b < 2 → a ≠ b → (TX6 a).2.1 ≠ (TX6 b).2.1 := by decide +kernel
theorem tyX6_ok : ∀ k, k < 2 → parseFieldDescriptor (TX6 k).2.2.1 = some (tyX6 k) := by decide +kernel
abbrev cX6_init : ByteArray := prog_41_method_1_code
def yX6_init : MethodName := ⟨RX6, "<init>", "()V"⟩
def dkwX6_init_0 : List UInt8 := [42, 183, 0, 3, 42, 16, 16, 188, 10, 181, 0, 9, 42, 16, 16, 188, 10, 181, 0, 15, 177]
abbrev dktX6_init_0 : List UInt8 := dkwX6_init_0 ++ []
theorem dksX6_init_0 : cX6_init.data.toList.drop 0 = dktX6_init_0 := by decide +kernel
theorem dX6_init_0 : decode cX6_init 0 = .ok (.aload_n 0, 1) := dk_42 (dk_at dksX6_init_0 0 rfl rfl)
theorem dX6_init_1 : decode cX6_init 1 = .ok (.invokespecial 3, 3) := dk_183 0 3 (dk_at dksX6_init_0 1 rfl rfl)
theorem dX6_init_4 : decode cX6_init 4 = .ok (.aload_n 0, 1) := dk_42 (dk_at dksX6_init_0 4 rfl rfl)
theorem dX6_init_5 : decode cX6_init 5 = .ok (.bipush 16, 2) := dk_16 16 (dk_at dksX6_init_0 5 rfl rfl)
theorem dX6_init_7 : decode cX6_init 7 = .ok (.newarray .int, 2) := dk_188_10 (dk_at dksX6_init_0 7 rfl rfl)
theorem dX6_init_9 : decode cX6_init 9 = .ok (.putfield 9, 3) := dk_181 0 9 (dk_at dksX6_init_0 9 rfl rfl)
theorem dX6_init_12 : decode cX6_init 12 = .ok (.aload_n 0, 1) := dk_42 (dk_at dksX6_init_0 12 rfl rfl)
theorem dX6_init_13 : decode cX6_init 13 = .ok (.bipush 16, 2) := dk_16 16 (dk_at dksX6_init_0 13 rfl rfl)
theorem dX6_init_15 : decode cX6_init 15 = .ok (.newarray .int, 2) := dk_188_10 (dk_at dksX6_init_0 15 rfl rfl)
theorem dX6_init_17 : decode cX6_init 17 = .ok (.putfield 15, 3) := dk_181 0 15 (dk_at dksX6_init_0 17 rfl rfl)
theorem dX6_init_20 : decode cX6_init 20 = .ok (.return_, 1) := dk_177 (dk_at dksX6_init_0 20 rfl rfl)
abbrev cX6_become : ByteArray := prog_41_method_2_code
def yX6_become : MethodName := ⟨RX6, "become", "(LGridTableModel$Places;)V"⟩
def dkwX6_become_1 : List UInt8 := [3, 16, 16, 184, 0, 18, 177]
abbrev dktX6_become_1 : List UInt8 := dkwX6_become_1 ++ []
def dkwX6_become_0 : List UInt8 := [43, 180, 0, 9, 3, 42, 180, 0, 9, 3, 16, 16, 184, 0, 18, 43, 180, 0, 15, 3, 42, 180, 0, 15]
abbrev dktX6_become_0 : List UInt8 := dkwX6_become_0 ++ dktX6_become_1
theorem dksX6_become_0 : cX6_become.data.toList.drop 0 = dktX6_become_0 := by decide +kernel
theorem dksX6_become_1 : cX6_become.data.toList.drop 24 = dktX6_become_1 := dk_seg dksX6_become_0 24 rfl rfl
theorem dX6_become_0 : decode cX6_become 0 = .ok (.aload_n 1, 1) := dk_43 (dk_at dksX6_become_0 0 rfl rfl)
theorem dX6_become_1 : decode cX6_become 1 = .ok (.getfield 9, 3) := dk_180 0 9 (dk_at dksX6_become_0 1 rfl rfl)
theorem dX6_become_4 : decode cX6_become 4 = .ok (.iconst 0, 1) := dk_3 (dk_at dksX6_become_0 4 rfl rfl)
theorem dX6_become_5 : decode cX6_become 5 = .ok (.aload_n 0, 1) := dk_42 (dk_at dksX6_become_0 5 rfl rfl)
theorem dX6_become_6 : decode cX6_become 6 = .ok (.getfield 9, 3) := dk_180 0 9 (dk_at dksX6_become_0 6 rfl rfl)
theorem dX6_become_9 : decode cX6_become 9 = .ok (.iconst 0, 1) := dk_3 (dk_at dksX6_become_0 9 rfl rfl)
theorem dX6_become_10 : decode cX6_become 10 = .ok (.bipush 16, 2) := dk_16 16 (dk_at dksX6_become_0 10 rfl rfl)
theorem dX6_become_12 : decode cX6_become 12 = .ok (.invokestatic 18, 3) := dk_184 0 18 (dk_at dksX6_become_0 12 rfl rfl)
theorem dX6_become_15 : decode cX6_become 15 = .ok (.aload_n 1, 1) := dk_43 (dk_at dksX6_become_0 15 rfl rfl)
theorem dX6_become_16 : decode cX6_become 16 = .ok (.getfield 15, 3) := dk_180 0 15 (dk_at dksX6_become_0 16 rfl rfl)
theorem dX6_become_19 : decode cX6_become 19 = .ok (.iconst 0, 1) := dk_3 (dk_at dksX6_become_0 19 rfl rfl)
theorem dX6_become_20 : decode cX6_become 20 = .ok (.aload_n 0, 1) := dk_42 (dk_at dksX6_become_0 20 rfl rfl)
theorem dX6_become_21 : decode cX6_become 21 = .ok (.getfield 15, 3) := dk_180 0 15 (dk_at dksX6_become_0 21 rfl rfl)
theorem dX6_become_24 : decode cX6_become 24 = .ok (.iconst 0, 1) := dk_3 (dk_at dksX6_become_1 0 rfl rfl)
theorem dX6_become_25 : decode cX6_become 25 = .ok (.bipush 16, 2) := dk_16 16 (dk_at dksX6_become_1 1 rfl rfl)
theorem dX6_become_27 : decode cX6_become 27 = .ok (.invokestatic 18, 3) := dk_184 0 18 (dk_at dksX6_become_1 3 rfl rfl)
theorem dX6_become_30 : decode cX6_become 30 = .ok (.return_, 1) := dk_177 (dk_at dksX6_become_1 6 rfl rfl)
theorem q120 : (Jvm.Cond.initialized "GridTableModel$Places") ∈ lw_all := lw_g (lw_at lw_m1 9 rfl) rfl
theorem q837 : (Jvm.Cond.selects "GridTableModel$Places" ({ cls := "java/lang/Object", name := "getClass", desc := "()Ljava/lang/Class;" } : Jvm.MethodName) ({ cls := "java/lang/Object", name := "getClass", desc := "()Ljava/lang/Class;" } : Jvm.MethodName)) ∈ lw_all := lw_g (lw_at lw_m4 6 rfl) rfl
theorem q1066 : (Jvm.Cond.selects "GridTableModel$Places" ({ cls := "java/lang/Object", name := "hashCode", desc := "()I" } : Jvm.MethodName) ({ cls := "java/lang/Object", name := "hashCode", desc := "()I" } : Jvm.MethodName)) ∈ lw_all := lw_g (lw_at lw_m4 235 rfl) rfl
theorem q1178 : (Jvm.Cond.selects "GridTableModel$Places" ({ cls := "java/lang/Object", name := "equals", desc := "(Ljava/lang/Object;)Z" } : Jvm.MethodName) ({ cls := "java/lang/Object", name := "equals", desc := "(Ljava/lang/Object;)Z" } : Jvm.MethodName)) ∈ lw_all := lw_g (lw_at lw_m5 107 rfl) rfl
theorem q2777 : (Jvm.Cond.instantiable "GridTableModel$Places" (2 : Nat)) ∈ lw_all := lw_g (lw_at lw_m12 26 rfl) rfl
theorem q2779 : (Jvm.Cond.instanceMethod ({ cls := "GridTableModel$Places", name := "<init>", desc := "()V" } : Jvm.MethodName)) ∈ lw_all := lw_g (lw_at lw_m12 28 rfl) rfl
theorem q2780 : (Jvm.Cond.code ({ cls := "GridTableModel$Places", name := "<init>", desc := "()V" } : Jvm.MethodName) prog_41_method_1_code (1 : Nat) (Option.none : Option Jvm.ClassFile.FieldType)) ∈ lw_all := lw_g (lw_at lw_m12 29 rfl) rfl
theorem q2781 : (Jvm.Cond.methodLink "GridTableModel$Places" (3 : Nat) ({ cls := "java/lang/Object", name := "<init>", desc := "()V" } : Jvm.MethodName)) ∈ lw_all := lw_g (lw_at lw_m12 30 rfl) rfl
theorem q2782 : (Jvm.Cond.fieldLink "GridTableModel$Places" (9 : Nat) "GridTableModel$Places" "x" "[I") ∈ lw_all := lw_g (lw_at lw_m12 31 rfl) rfl
theorem q2784 : (Jvm.Cond.fieldLink "GridTableModel$Places" (15 : Nat) "GridTableModel$Places" "y" "[I") ∈ lw_all := lw_g (lw_at lw_m12 33 rfl) rfl
theorem q2786 : (Jvm.Cond.laysFinal "GridTableModel$Places" "GridTableModel$Places" "x" "[I") ∈ lw_all := lw_g (lw_at lw_m12 35 rfl) rfl
theorem q2787 : (Jvm.Cond.soleField "GridTableModel$Places" "x") ∈ lw_all := lw_g (lw_at lw_m12 36 rfl) rfl
theorem q2788 : (Jvm.Cond.laysFinal "GridTableModel$Places" "GridTableModel$Places" "y" "[I") ∈ lw_all := lw_g (lw_at lw_m12 37 rfl) rfl
theorem q2789 : (Jvm.Cond.soleField "GridTableModel$Places" "y") ∈ lw_all := lw_g (lw_at lw_m12 38 rfl) rfl
theorem q2790 : (Jvm.Cond.superclass "GridTableModel$Places" "java/lang/Object") ∈ lw_all := lw_g (lw_at lw_m12 39 rfl) rfl
theorem q3213 : (Jvm.Cond.instanceMethod ({ cls := "GridTableModel$Places", name := "become", desc := "(LGridTableModel$Places;)V" } : Jvm.MethodName)) ∈ lw_all := lw_g (lw_at lw_m13 222 rfl) rfl
theorem q3214 : (Jvm.Cond.selects "GridTableModel$Places" ({ cls := "GridTableModel$Places", name := "become", desc := "(LGridTableModel$Places;)V" } : Jvm.MethodName) ({ cls := "GridTableModel$Places", name := "become", desc := "(LGridTableModel$Places;)V" } : Jvm.MethodName)) ∈ lw_all := lw_g (lw_at lw_m13 223 rfl) rfl
theorem q3215 : (Jvm.Cond.code ({ cls := "GridTableModel$Places", name := "become", desc := "(LGridTableModel$Places;)V" } : Jvm.MethodName) prog_41_method_2_code (2 : Nat) (Option.none : Option Jvm.ClassFile.FieldType)) ∈ lw_all := lw_g (lw_at lw_m13 224 rfl) rfl
theorem q3216 : (Jvm.Cond.methodLink "GridTableModel$Places" (18 : Nat) ({ cls := "java/lang/System", name := "arraycopy", desc := "(Ljava/lang/Object;ILjava/lang/Object;II)V" } : Jvm.MethodName)) ∈ lw_all := lw_g (lw_at lw_m13 225 rfl) rfl
theorem q3327 : (Jvm.Cond.castable "GridTableModel$Places" "java/lang/Object") ∈ lw_tbl := lw_at lw_m14 96 rfl
theorem in_X6 : ∀ w ∈ wsX60, w ∈ lw_all := lw_in wsX60 [2786, 2788] (by decide +kernel) (by decide +kernel)

/-! java/lang/Throwable -/
set_option maxRecDepth 100000
def RJ3 : String := "java/lang/Throwable"
def TJ3 : u_T := fun k => match k with
  | 0 => ("java/lang/Throwable", "cause", "Ljava/lang/Throwable;", false)
  | 1 => ("java/lang/Throwable", "stackTrace", "[Ljava/lang/StackTraceElement;", false)
  | 2 => ("java/lang/Throwable", "suppressedExceptions", "Ljava/util/List;", false)
  | 3 => ("java/lang/Throwable", "detailMessage", "Ljava/lang/String;", false)
  | _ => ("java/lang/Throwable", "backtrace", "Ljava/lang/Object;", false)
def tyJ3 : Nat → FieldType := fun k => match k with
  | 0 => .object "java/lang/Throwable"
  | 1 => .array (.object "java/lang/StackTraceElement")
  | 2 => .object "java/util/List"
  | 3 => .object "java/lang/String"
  | _ => .object "java/lang/Object"
abbrev wsJ30 : List Cond := u_ws RJ3 TJ3 5
theorem nmJ3 : ∀ a, a < 5 → ∀ b, b < 5 → a ≠ b → (TJ3 a).2.1 ≠ (TJ3 b).2.1 := by decide +kernel
theorem tyJ3_ok : ∀ k, k < 5 → parseFieldDescriptor (TJ3 k).2.2.1 = some (tyJ3 k) := by decide +kernel
abbrev cJ3_init : ByteArray := prog_69_method_1_code
def yJ3_init : MethodName := ⟨RJ3, "<init>", "()V"⟩
def dkwJ3_init_1 : List UInt8 := [182, 0, 27, 87, 177]
abbrev dktJ3_init_1 : List UInt8 := dkwJ3_init_1 ++ []
def dkwJ3_init_0 : List UInt8 := [42, 183, 0, 1, 42, 42, 181, 0, 7, 42, 178, 0, 13, 181, 0, 17, 42, 178, 0, 20, 181, 0, 24, 42]
abbrev dktJ3_init_0 : List UInt8 := dkwJ3_init_0 ++ dktJ3_init_1
theorem dksJ3_init_0 : cJ3_init.data.toList.drop 0 = dktJ3_init_0 := by decide +kernel
theorem dksJ3_init_1 : cJ3_init.data.toList.drop 24 = dktJ3_init_1 := dk_seg dksJ3_init_0 24 rfl rfl
theorem dJ3_init_0 : decode cJ3_init 0 = .ok (.aload_n 0, 1) := dk_42 (dk_at dksJ3_init_0 0 rfl rfl)
theorem dJ3_init_1 : decode cJ3_init 1 = .ok (.invokespecial 1, 3) := dk_183 0 1 (dk_at dksJ3_init_0 1 rfl rfl)
theorem dJ3_init_4 : decode cJ3_init 4 = .ok (.aload_n 0, 1) := dk_42 (dk_at dksJ3_init_0 4 rfl rfl)
theorem dJ3_init_5 : decode cJ3_init 5 = .ok (.aload_n 0, 1) := dk_42 (dk_at dksJ3_init_0 5 rfl rfl)
theorem dJ3_init_6 : decode cJ3_init 6 = .ok (.putfield 7, 3) := dk_181 0 7 (dk_at dksJ3_init_0 6 rfl rfl)
theorem dJ3_init_9 : decode cJ3_init 9 = .ok (.aload_n 0, 1) := dk_42 (dk_at dksJ3_init_0 9 rfl rfl)
theorem dJ3_init_10 : decode cJ3_init 10 = .ok (.getstatic 13, 3) := dk_178 0 13 (dk_at dksJ3_init_0 10 rfl rfl)
theorem dJ3_init_13 : decode cJ3_init 13 = .ok (.putfield 17, 3) := dk_181 0 17 (dk_at dksJ3_init_0 13 rfl rfl)
theorem dJ3_init_16 : decode cJ3_init 16 = .ok (.aload_n 0, 1) := dk_42 (dk_at dksJ3_init_0 16 rfl rfl)
theorem dJ3_init_17 : decode cJ3_init 17 = .ok (.getstatic 20, 3) := dk_178 0 20 (dk_at dksJ3_init_0 17 rfl rfl)
theorem dJ3_init_20 : decode cJ3_init 20 = .ok (.putfield 24, 3) := dk_181 0 24 (dk_at dksJ3_init_0 20 rfl rfl)
theorem dJ3_init_23 : decode cJ3_init 23 = .ok (.aload_n 0, 1) := dk_42 (dk_at dksJ3_init_0 23 rfl rfl)
theorem dJ3_init_24 : decode cJ3_init 24 = .ok (.invokevirtual 27, 3) := dk_182 0 27 (dk_at dksJ3_init_1 0 rfl rfl)
theorem dJ3_init_27 : decode cJ3_init 27 = .ok (.pop, 1) := dk_87 (dk_at dksJ3_init_1 3 rfl rfl)
theorem dJ3_init_28 : decode cJ3_init 28 = .ok (.return_, 1) := dk_177 (dk_at dksJ3_init_1 4 rfl rfl)
abbrev cJ3_init_2 : ByteArray := prog_69_method_2_code
def yJ3_init_2 : MethodName := ⟨RJ3, "<init>", "(Ljava/lang/String;)V"⟩
def dkwJ3_init_2_1 : List UInt8 := [182, 0, 27, 87, 42, 43, 181, 0, 31, 177]
abbrev dktJ3_init_2_1 : List UInt8 := dkwJ3_init_2_1 ++ []
def dkwJ3_init_2_0 : List UInt8 := [42, 183, 0, 1, 42, 42, 181, 0, 7, 42, 178, 0, 13, 181, 0, 17, 42, 178, 0, 20, 181, 0, 24, 42]
abbrev dktJ3_init_2_0 : List UInt8 := dkwJ3_init_2_0 ++ dktJ3_init_2_1
theorem dksJ3_init_2_0 : cJ3_init_2.data.toList.drop 0 = dktJ3_init_2_0 := by decide +kernel
theorem dksJ3_init_2_1 : cJ3_init_2.data.toList.drop 24 = dktJ3_init_2_1 := dk_seg dksJ3_init_2_0 24 rfl rfl
theorem dJ3_init_2_0 : decode cJ3_init_2 0 = .ok (.aload_n 0, 1) := dk_42 (dk_at dksJ3_init_2_0 0 rfl rfl)
theorem dJ3_init_2_1 : decode cJ3_init_2 1 = .ok (.invokespecial 1, 3) := dk_183 0 1 (dk_at dksJ3_init_2_0 1 rfl rfl)
theorem dJ3_init_2_4 : decode cJ3_init_2 4 = .ok (.aload_n 0, 1) := dk_42 (dk_at dksJ3_init_2_0 4 rfl rfl)
theorem dJ3_init_2_5 : decode cJ3_init_2 5 = .ok (.aload_n 0, 1) := dk_42 (dk_at dksJ3_init_2_0 5 rfl rfl)
theorem dJ3_init_2_6 : decode cJ3_init_2 6 = .ok (.putfield 7, 3) := dk_181 0 7 (dk_at dksJ3_init_2_0 6 rfl rfl)
theorem dJ3_init_2_9 : decode cJ3_init_2 9 = .ok (.aload_n 0, 1) := dk_42 (dk_at dksJ3_init_2_0 9 rfl rfl)
theorem dJ3_init_2_10 : decode cJ3_init_2 10 = .ok (.getstatic 13, 3) := dk_178 0 13 (dk_at dksJ3_init_2_0 10 rfl rfl)
theorem dJ3_init_2_13 : decode cJ3_init_2 13 = .ok (.putfield 17, 3) := dk_181 0 17 (dk_at dksJ3_init_2_0 13 rfl rfl)
theorem dJ3_init_2_16 : decode cJ3_init_2 16 = .ok (.aload_n 0, 1) := dk_42 (dk_at dksJ3_init_2_0 16 rfl rfl)
theorem dJ3_init_2_17 : decode cJ3_init_2 17 = .ok (.getstatic 20, 3) := dk_178 0 20 (dk_at dksJ3_init_2_0 17 rfl rfl)
theorem dJ3_init_2_20 : decode cJ3_init_2 20 = .ok (.putfield 24, 3) := dk_181 0 24 (dk_at dksJ3_init_2_0 20 rfl rfl)
theorem dJ3_init_2_23 : decode cJ3_init_2 23 = .ok (.aload_n 0, 1) := dk_42 (dk_at dksJ3_init_2_0 23 rfl rfl)
theorem dJ3_init_2_24 : decode cJ3_init_2 24 = .ok (.invokevirtual 27, 3) := dk_182 0 27 (dk_at dksJ3_init_2_1 0 rfl rfl)
theorem dJ3_init_2_27 : decode cJ3_init_2 27 = .ok (.pop, 1) := dk_87 (dk_at dksJ3_init_2_1 3 rfl rfl)
theorem dJ3_init_2_28 : decode cJ3_init_2 28 = .ok (.aload_n 0, 1) := dk_42 (dk_at dksJ3_init_2_1 4 rfl rfl)
theorem dJ3_init_2_29 : decode cJ3_init_2 29 = .ok (.aload_n 1, 1) := dk_43 (dk_at dksJ3_init_2_1 5 rfl rfl)
theorem dJ3_init_2_30 : decode cJ3_init_2 30 = .ok (.putfield 31, 3) := dk_181 0 31 (dk_at dksJ3_init_2_1 6 rfl rfl)
theorem dJ3_init_2_33 : decode cJ3_init_2 33 = .ok (.return_, 1) := dk_177 (dk_at dksJ3_init_2_1 9 rfl rfl)
theorem q121 : (Jvm.Cond.initialized "java/lang/Throwable") ∈ lw_all := lw_g (lw_at lw_m1 10 rfl) rfl
theorem q544 : (Jvm.Cond.declares ({ cls := "java/lang/Throwable", name := "<init>", desc := "()V" } : Jvm.MethodName)) ∈ lw_tbl := lw_at lw_m2 193 rfl
theorem q545 : (Jvm.Cond.declares ({ cls := "java/lang/Throwable", name := "<init>", desc := "(Ljava/lang/String;)V" } : Jvm.MethodName)) ∈ lw_tbl := lw_at lw_m2 194 rfl
theorem q549 : (Jvm.Cond.lays "java/lang/Throwable" "java/lang/Throwable" "cause" "Ljava/lang/Throwable;") ∈ lw_all := lw_g (lw_at lw_m2 198 rfl) rfl
theorem q551 : (Jvm.Cond.lays "java/lang/Throwable" "java/lang/Throwable" "stackTrace" "[Ljava/lang/StackTraceElement;") ∈ lw_all := lw_g (lw_at lw_m2 200 rfl) rfl
theorem q553 : (Jvm.Cond.lays "java/lang/Throwable" "java/lang/Throwable" "suppressedExceptions" "Ljava/util/List;") ∈ lw_all := lw_g (lw_at lw_m2 202 rfl) rfl
theorem q555 : (Jvm.Cond.lays "java/lang/Throwable" "java/lang/Throwable" "detailMessage" "Ljava/lang/String;") ∈ lw_all := lw_g (lw_at lw_m2 204 rfl) rfl
theorem q557 : (Jvm.Cond.lays "java/lang/Throwable" "java/lang/Throwable" "backtrace" "Ljava/lang/Object;") ∈ lw_all := lw_g (lw_at lw_m2 206 rfl) rfl
theorem q558 : (Jvm.Cond.fieldLink "java/lang/Throwable" (198 : Nat) "java/lang/Throwable" "backtrace" "Ljava/lang/Object;") ∈ lw_all := lw_g (lw_at lw_m2 207 rfl) rfl
theorem q559 : (Jvm.Cond.superclass "java/lang/Throwable" "java/lang/Object") ∈ lw_all := lw_g (lw_at lw_m2 208 rfl) rfl
theorem q560 : (Jvm.Cond.instanceMethod ({ cls := "java/lang/Throwable", name := "<init>", desc := "()V" } : Jvm.MethodName)) ∈ lw_all := lw_g (lw_at lw_m2 209 rfl) rfl
theorem q561 : (Jvm.Cond.code ({ cls := "java/lang/Throwable", name := "<init>", desc := "()V" } : Jvm.MethodName) prog_69_method_1_code (1 : Nat) (Option.none : Option Jvm.ClassFile.FieldType)) ∈ lw_all := lw_g (lw_at lw_m2 210 rfl) rfl
theorem q562 : (Jvm.Cond.methodLink "java/lang/Throwable" (1 : Nat) ({ cls := "java/lang/Object", name := "<init>", desc := "()V" } : Jvm.MethodName)) ∈ lw_all := lw_g (lw_at lw_m2 211 rfl) rfl
theorem q563 : (Jvm.Cond.fieldLink "java/lang/Throwable" (13 : Nat) "java/lang/Throwable" "UNASSIGNED_STACK" "[Ljava/lang/StackTraceElement;") ∈ lw_all := lw_g (lw_at lw_m2 212 rfl) rfl
theorem q564 : (Jvm.Cond.laysStatic "java/lang/Throwable" "UNASSIGNED_STACK" "[Ljava/lang/StackTraceElement;") ∈ lw_tbl := lw_at lw_m2 213 rfl
theorem q565 : (Jvm.Cond.fieldLink "java/lang/Throwable" (20 : Nat) "java/lang/Throwable" "SUPPRESSED_SENTINEL" "Ljava/util/List;") ∈ lw_all := lw_g (lw_at lw_m2 214 rfl) rfl
theorem q566 : (Jvm.Cond.laysStatic "java/lang/Throwable" "SUPPRESSED_SENTINEL" "Ljava/util/List;") ∈ lw_tbl := lw_at lw_m2 215 rfl
theorem q567 : (Jvm.Cond.methodLink "java/lang/Throwable" (27 : Nat) ({ cls := "java/lang/Throwable", name := "fillInStackTrace", desc := "()Ljava/lang/Throwable;" } : Jvm.MethodName)) ∈ lw_all := lw_g (lw_at lw_m2 216 rfl) rfl
theorem q568 : (Jvm.Cond.instanceMethod ({ cls := "java/lang/Throwable", name := "fillInStackTrace", desc := "()Ljava/lang/Throwable;" } : Jvm.MethodName)) ∈ lw_all := lw_g (lw_at lw_m2 217 rfl) rfl
theorem q569 : (Jvm.Cond.sameMethod "java/lang/Throwable" "java/lang/Throwable" "fillInStackTrace" "()Ljava/lang/Throwable;") ∈ lw_all := lw_g (lw_at lw_m2 218 rfl) rfl
theorem q574 : (Jvm.Cond.codeSync ({ cls := "java/lang/Throwable", name := "fillInStackTrace", desc := "()Ljava/lang/Throwable;" } : Jvm.MethodName) prog_69_method_18_code (1 : Nat) (Option.some (Jvm.ClassFile.FieldType.object "java/lang/Throwable"))) ∈ lw_all := lw_g (lw_at lw_m2 223 rfl) rfl
theorem q575 : (Jvm.Cond.methodLink "java/lang/Throwable" (202 : Nat) ({ cls := "java/lang/Throwable", name := "fillInStackTrace", desc := "(I)Ljava/lang/Throwable;" } : Jvm.MethodName)) ∈ lw_all := lw_g (lw_at lw_m2 224 rfl) rfl
theorem q576 : (Jvm.Cond.privateMethod ({ cls := "java/lang/Throwable", name := "fillInStackTrace", desc := "(I)Ljava/lang/Throwable;" } : Jvm.MethodName)) ∈ lw_tbl := lw_at lw_m2 225 rfl
theorem q577 : (Jvm.Cond.instanceMethod ({ cls := "java/lang/Throwable", name := "fillInStackTrace", desc := "(I)Ljava/lang/Throwable;" } : Jvm.MethodName)) ∈ lw_all := lw_g (lw_at lw_m2 226 rfl) rfl
theorem q578 : (Jvm.Cond.instantiable "java/lang/Throwable" (6 : Nat)) ∈ lw_all := lw_g (lw_at lw_m2 227 rfl) rfl
theorem q579 : (Jvm.Cond.native ({ cls := "java/lang/Throwable", name := "fillInStackTrace", desc := "(I)Ljava/lang/Throwable;" } : Jvm.MethodName)) ∈ lw_all := lw_g (lw_at lw_m2 228 rfl) rfl
theorem q666 : (Jvm.Cond.instanceMethod ({ cls := "java/lang/Throwable", name := "<init>", desc := "(Ljava/lang/String;)V" } : Jvm.MethodName)) ∈ lw_all := lw_g (lw_at lw_m3 75 rfl) rfl
theorem q667 : (Jvm.Cond.code ({ cls := "java/lang/Throwable", name := "<init>", desc := "(Ljava/lang/String;)V" } : Jvm.MethodName) prog_69_method_2_code (2 : Nat) (Option.none : Option Jvm.ClassFile.FieldType)) ∈ lw_all := lw_g (lw_at lw_m3 76 rfl) rfl
theorem q668 : (Jvm.Cond.fieldLink "java/lang/Throwable" (198 : Nat) "java/lang/Throwable" "backtrace" "Ljava/lang/Object;") ∈ lw_all := lw_g (lw_at lw_m3 77 rfl) rfl
theorem q669 : (Jvm.Cond.fieldLink "java/lang/Throwable" (31 : Nat) "java/lang/Throwable" "detailMessage" "Ljava/lang/String;") ∈ lw_all := lw_g (lw_at lw_m3 78 rfl) rfl
theorem q670 : (Jvm.Cond.fieldLink "java/lang/Throwable" (7 : Nat) "java/lang/Throwable" "cause" "Ljava/lang/Throwable;") ∈ lw_all := lw_g (lw_at lw_m3 79 rfl) rfl
theorem q671 : (Jvm.Cond.fieldLink "java/lang/Throwable" (17 : Nat) "java/lang/Throwable" "stackTrace" "[Ljava/lang/StackTraceElement;") ∈ lw_all := lw_g (lw_at lw_m3 80 rfl) rfl
theorem q672 : (Jvm.Cond.fieldLink "java/lang/Throwable" (24 : Nat) "java/lang/Throwable" "suppressedExceptions" "Ljava/util/List;") ∈ lw_all := lw_g (lw_at lw_m3 81 rfl) rfl
theorem q673 : (Jvm.Cond.soleField "java/lang/Throwable" "backtrace") ∈ lw_all := lw_g (lw_at lw_m3 82 rfl) rfl
theorem q674 : (Jvm.Cond.soleField "java/lang/Throwable" "detailMessage") ∈ lw_all := lw_g (lw_at lw_m3 83 rfl) rfl
theorem q675 : (Jvm.Cond.soleField "java/lang/Throwable" "cause") ∈ lw_all := lw_g (lw_at lw_m3 84 rfl) rfl
theorem q676 : (Jvm.Cond.soleField "java/lang/Throwable" "stackTrace") ∈ lw_all := lw_g (lw_at lw_m3 85 rfl) rfl
theorem q678 : (Jvm.Cond.soleField "java/lang/Throwable" "depth") ∈ lw_all := lw_g (lw_at lw_m3 87 rfl) rfl
theorem q679 : (Jvm.Cond.soleField "java/lang/Throwable" "suppressedExceptions") ∈ lw_all := lw_g (lw_at lw_m3 88 rfl) rfl
theorem q3296 : (Jvm.Cond.sameMethod "java/lang/Throwable" "java/lang/Throwable" "fillInStackTrace" "(I)Ljava/lang/Throwable;") ∈ lw_all := lw_g (lw_at lw_m14 65 rfl) rfl
theorem q3377 : (Jvm.Cond.castable "java/lang/Throwable" "java/lang/Object") ∈ lw_tbl := lw_at lw_m14 146 rfl
theorem in_J3 : ∀ w ∈ wsJ30, w ∈ lw_all := lw_in wsJ30 [549, 551, 553, 555, 557] (by decide +kernel) (by decide +kernel)

/-! java/lang/Exception -/
set_option maxRecDepth 100000
def RJ4 : String := "java/lang/Exception"
abbrev cJ4_init : ByteArray := prog_52_method_2_code
def yJ4_init : MethodName := ⟨RJ4, "<init>", "(Ljava/lang/String;)V"⟩
def dkwJ4_init_0 : List UInt8 := [42, 43, 183, 0, 7, 177]
abbrev dktJ4_init_0 : List UInt8 := dkwJ4_init_0 ++ []
theorem dksJ4_init_0 : cJ4_init.data.toList.drop 0 = dktJ4_init_0 := by decide +kernel
theorem dJ4_init_0 : decode cJ4_init 0 = .ok (.aload_n 0, 1) := dk_42 (dk_at dksJ4_init_0 0 rfl rfl)
theorem dJ4_init_1 : decode cJ4_init 1 = .ok (.aload_n 1, 1) := dk_43 (dk_at dksJ4_init_0 1 rfl rfl)
theorem dJ4_init_2 : decode cJ4_init 2 = .ok (.invokespecial 7, 3) := dk_183 0 7 (dk_at dksJ4_init_0 2 rfl rfl)
theorem dJ4_init_5 : decode cJ4_init 5 = .ok (.return_, 1) := dk_177 (dk_at dksJ4_init_0 5 rfl rfl)
abbrev cJ4_init_2 : ByteArray := prog_52_method_1_code
def yJ4_init_2 : MethodName := ⟨RJ4, "<init>", "()V"⟩
theorem dJ4_init_2_0 : decode cJ4_init_2 0 = .ok (.aload_n 0, 1) := by decide +kernel
theorem dJ4_init_2_1 : decode cJ4_init_2 1 = .ok (.invokespecial 1, 3) := by decide +kernel
theorem dJ4_init_2_4 : decode cJ4_init_2 4 = .ok (.return_, 1) := by decide +kernel
theorem q122 : (Jvm.Cond.initialized "java/lang/Exception") ∈ lw_all := lw_g (lw_at lw_m1 11 rfl) rfl
theorem q542 : (Jvm.Cond.declares ({ cls := "java/lang/Exception", name := "<init>", desc := "()V" } : Jvm.MethodName)) ∈ lw_tbl := lw_at lw_m2 191 rfl
theorem q543 : (Jvm.Cond.declares ({ cls := "java/lang/Exception", name := "<init>", desc := "(Ljava/lang/String;)V" } : Jvm.MethodName)) ∈ lw_tbl := lw_at lw_m2 192 rfl
theorem q663 : (Jvm.Cond.instanceMethod ({ cls := "java/lang/Exception", name := "<init>", desc := "(Ljava/lang/String;)V" } : Jvm.MethodName)) ∈ lw_all := lw_g (lw_at lw_m3 72 rfl) rfl
theorem q664 : (Jvm.Cond.code ({ cls := "java/lang/Exception", name := "<init>", desc := "(Ljava/lang/String;)V" } : Jvm.MethodName) prog_52_method_2_code (2 : Nat) (Option.none : Option Jvm.ClassFile.FieldType)) ∈ lw_all := lw_g (lw_at lw_m3 73 rfl) rfl
theorem q665 : (Jvm.Cond.methodLink "java/lang/Exception" (7 : Nat) ({ cls := "java/lang/Throwable", name := "<init>", desc := "(Ljava/lang/String;)V" } : Jvm.MethodName)) ∈ lw_all := lw_g (lw_at lw_m3 74 rfl) rfl
theorem q999 : (Jvm.Cond.instanceMethod ({ cls := "java/lang/Exception", name := "<init>", desc := "()V" } : Jvm.MethodName)) ∈ lw_all := lw_g (lw_at lw_m4 168 rfl) rfl
theorem q1000 : (Jvm.Cond.code ({ cls := "java/lang/Exception", name := "<init>", desc := "()V" } : Jvm.MethodName) prog_52_method_1_code (1 : Nat) (Option.none : Option Jvm.ClassFile.FieldType)) ∈ lw_all := lw_g (lw_at lw_m4 169 rfl) rfl
theorem q1001 : (Jvm.Cond.methodLink "java/lang/Exception" (1 : Nat) ({ cls := "java/lang/Throwable", name := "<init>", desc := "()V" } : Jvm.MethodName)) ∈ lw_all := lw_g (lw_at lw_m4 170 rfl) rfl

/-! java/lang/RuntimeException -/
set_option maxRecDepth 100000
def RJ5 : String := "java/lang/RuntimeException"
abbrev cJ5_init : ByteArray := prog_62_method_2_code
def yJ5_init : MethodName := ⟨RJ5, "<init>", "(Ljava/lang/String;)V"⟩
def dkwJ5_init_0 : List UInt8 := [42, 43, 183, 0, 7, 177]
abbrev dktJ5_init_0 : List UInt8 := dkwJ5_init_0 ++ []
theorem dksJ5_init_0 : cJ5_init.data.toList.drop 0 = dktJ5_init_0 := by decide +kernel
theorem dJ5_init_0 : decode cJ5_init 0 = .ok (.aload_n 0, 1) := dk_42 (dk_at dksJ5_init_0 0 rfl rfl)
theorem dJ5_init_1 : decode cJ5_init 1 = .ok (.aload_n 1, 1) := dk_43 (dk_at dksJ5_init_0 1 rfl rfl)
theorem dJ5_init_2 : decode cJ5_init 2 = .ok (.invokespecial 7, 3) := dk_183 0 7 (dk_at dksJ5_init_0 2 rfl rfl)
theorem dJ5_init_5 : decode cJ5_init 5 = .ok (.return_, 1) := dk_177 (dk_at dksJ5_init_0 5 rfl rfl)
abbrev cJ5_init_2 : ByteArray := prog_62_method_1_code
def yJ5_init_2 : MethodName := ⟨RJ5, "<init>", "()V"⟩
theorem dJ5_init_2_0 : decode cJ5_init_2 0 = .ok (.aload_n 0, 1) := by decide +kernel
theorem dJ5_init_2_1 : decode cJ5_init_2 1 = .ok (.invokespecial 1, 3) := by decide +kernel
theorem dJ5_init_2_4 : decode cJ5_init_2 4 = .ok (.return_, 1) := by decide +kernel
theorem q123 : (Jvm.Cond.initialized "java/lang/RuntimeException") ∈ lw_all := lw_g (lw_at lw_m1 12 rfl) rfl
theorem q540 : (Jvm.Cond.declares ({ cls := "java/lang/RuntimeException", name := "<init>", desc := "()V" } : Jvm.MethodName)) ∈ lw_tbl := lw_at lw_m2 189 rfl
theorem q541 : (Jvm.Cond.declares ({ cls := "java/lang/RuntimeException", name := "<init>", desc := "(Ljava/lang/String;)V" } : Jvm.MethodName)) ∈ lw_tbl := lw_at lw_m2 190 rfl
theorem q660 : (Jvm.Cond.instanceMethod ({ cls := "java/lang/RuntimeException", name := "<init>", desc := "(Ljava/lang/String;)V" } : Jvm.MethodName)) ∈ lw_all := lw_g (lw_at lw_m3 69 rfl) rfl
theorem q661 : (Jvm.Cond.code ({ cls := "java/lang/RuntimeException", name := "<init>", desc := "(Ljava/lang/String;)V" } : Jvm.MethodName) prog_62_method_2_code (2 : Nat) (Option.none : Option Jvm.ClassFile.FieldType)) ∈ lw_all := lw_g (lw_at lw_m3 70 rfl) rfl
theorem q662 : (Jvm.Cond.methodLink "java/lang/RuntimeException" (7 : Nat) ({ cls := "java/lang/Exception", name := "<init>", desc := "(Ljava/lang/String;)V" } : Jvm.MethodName)) ∈ lw_all := lw_g (lw_at lw_m3 71 rfl) rfl
theorem q2380 : (Jvm.Cond.instanceMethod ({ cls := "java/lang/RuntimeException", name := "<init>", desc := "()V" } : Jvm.MethodName)) ∈ lw_all := lw_g (lw_at lw_m10 109 rfl) rfl
theorem q2381 : (Jvm.Cond.code ({ cls := "java/lang/RuntimeException", name := "<init>", desc := "()V" } : Jvm.MethodName) prog_62_method_1_code (1 : Nat) (Option.none : Option Jvm.ClassFile.FieldType)) ∈ lw_all := lw_g (lw_at lw_m10 110 rfl) rfl
theorem q2382 : (Jvm.Cond.methodLink "java/lang/RuntimeException" (1 : Nat) ({ cls := "java/lang/Exception", name := "<init>", desc := "()V" } : Jvm.MethodName)) ∈ lw_all := lw_g (lw_at lw_m10 111 rfl) rfl

/-! java/lang/IllegalStateException -/
set_option maxRecDepth 100000
def RJ6 : String := "java/lang/IllegalStateException"
def TJ6 : u_T := fun k => match k with
  | 0 => ("java/lang/Throwable", "cause", "Ljava/lang/Throwable;", false)
  | 1 => ("java/lang/Throwable", "stackTrace", "[Ljava/lang/StackTraceElement;", false)
  | 2 => ("java/lang/Throwable", "suppressedExceptions", "Ljava/util/List;", false)
  | 3 => ("java/lang/Throwable", "detailMessage", "Ljava/lang/String;", false)
  | 4 => ("java/lang/Throwable", "backtrace", "Ljava/lang/Object;", false)
  | _ => ("java/lang/Throwable", "depth", "I", false)
def tyJ6 : Nat → FieldType := fun k => match k with
  | 0 => .object "java/lang/Throwable"
  | 1 => .array (.object "java/lang/StackTraceElement")
  | 2 => .object "java/util/List"
  | 3 => .object "java/lang/String"
  | 4 => .object "java/lang/Object"
  | _ => .int
abbrev wsJ60 : List Cond := u_ws RJ6 TJ6 6
theorem nmJ6 : ∀ a, a < 6 → ∀ b, b < 6 → a ≠ b → (TJ6 a).2.1 ≠ (TJ6 b).2.1 := by decide +kernel
theorem tyJ6_ok : ∀ k, k < 6 → parseFieldDescriptor (TJ6 k).2.2.1 = some (tyJ6 k) := by decide +kernel
abbrev cJ6_init : ByteArray := prog_54_method_1_code
def yJ6_init : MethodName := ⟨RJ6, "<init>", "()V"⟩
theorem dJ6_init_0 : decode cJ6_init 0 = .ok (.aload_n 0, 1) := by decide +kernel
theorem dJ6_init_1 : decode cJ6_init 1 = .ok (.invokespecial 1, 3) := by decide +kernel
theorem dJ6_init_4 : decode cJ6_init 4 = .ok (.return_, 1) := by decide +kernel
theorem q124 : (Jvm.Cond.initialized "java/lang/IllegalStateException") ∈ lw_all := lw_g (lw_at lw_m1 13 rfl) rfl
theorem q572 : (Jvm.Cond.selects "java/lang/IllegalStateException" ({ cls := "java/lang/Throwable", name := "fillInStackTrace", desc := "()Ljava/lang/Throwable;" } : Jvm.MethodName) ({ cls := "java/lang/Throwable", name := "fillInStackTrace", desc := "()Ljava/lang/Throwable;" } : Jvm.MethodName)) ∈ lw_all := lw_g (lw_at lw_m2 221 rfl) rfl
theorem q841 : (Jvm.Cond.selects "java/lang/IllegalStateException" ({ cls := "java/lang/Object", name := "getClass", desc := "()Ljava/lang/Class;" } : Jvm.MethodName) ({ cls := "java/lang/Object", name := "getClass", desc := "()Ljava/lang/Class;" } : Jvm.MethodName)) ∈ lw_all := lw_g (lw_at lw_m4 10 rfl) rfl
theorem q1070 : (Jvm.Cond.selects "java/lang/IllegalStateException" ({ cls := "java/lang/Object", name := "hashCode", desc := "()I" } : Jvm.MethodName) ({ cls := "java/lang/Object", name := "hashCode", desc := "()I" } : Jvm.MethodName)) ∈ lw_all := lw_g (lw_at lw_m4 239 rfl) rfl
theorem q1182 : (Jvm.Cond.selects "java/lang/IllegalStateException" ({ cls := "java/lang/Object", name := "equals", desc := "(Ljava/lang/Object;)Z" } : Jvm.MethodName) ({ cls := "java/lang/Object", name := "equals", desc := "(Ljava/lang/Object;)Z" } : Jvm.MethodName)) ∈ lw_all := lw_g (lw_at lw_m5 111 rfl) rfl
theorem q2507 : (Jvm.Cond.instantiable "java/lang/IllegalStateException" (6 : Nat)) ∈ lw_all := lw_g (lw_at lw_m10 236 rfl) rfl
theorem q2508 : (Jvm.Cond.castable "java/lang/IllegalStateException" "java/lang/IllegalStateException") ∈ lw_tbl := lw_at lw_m10 237 rfl
theorem q2509 : (Jvm.Cond.selects "java/lang/IllegalStateException" ({ cls := "java/lang/Throwable", name := "fillInStackTrace", desc := "(I)Ljava/lang/Throwable;" } : Jvm.MethodName) ({ cls := "java/lang/Throwable", name := "fillInStackTrace", desc := "(I)Ljava/lang/Throwable;" } : Jvm.MethodName)) ∈ lw_all := lw_g (lw_at lw_m10 238 rfl) rfl
theorem q2510 : (Jvm.Cond.lays "java/lang/IllegalStateException" "java/lang/Throwable" "cause" "Ljava/lang/Throwable;") ∈ lw_all := lw_g (lw_at lw_m10 239 rfl) rfl
theorem q2511 : (Jvm.Cond.lays "java/lang/IllegalStateException" "java/lang/Throwable" "stackTrace" "[Ljava/lang/StackTraceElement;") ∈ lw_all := lw_g (lw_at lw_m11 0 rfl) rfl
theorem q2512 : (Jvm.Cond.lays "java/lang/IllegalStateException" "java/lang/Throwable" "suppressedExceptions" "Ljava/util/List;") ∈ lw_all := lw_g (lw_at lw_m11 1 rfl) rfl
theorem q2513 : (Jvm.Cond.lays "java/lang/IllegalStateException" "java/lang/Throwable" "detailMessage" "Ljava/lang/String;") ∈ lw_all := lw_g (lw_at lw_m11 2 rfl) rfl
theorem q2514 : (Jvm.Cond.lays "java/lang/IllegalStateException" "java/lang/Throwable" "backtrace" "Ljava/lang/Object;") ∈ lw_all := lw_g (lw_at lw_m11 3 rfl) rfl
theorem q2516 : (Jvm.Cond.instanceMethod ({ cls := "java/lang/IllegalStateException", name := "<init>", desc := "()V" } : Jvm.MethodName)) ∈ lw_all := lw_g (lw_at lw_m11 5 rfl) rfl
theorem q2517 : (Jvm.Cond.code ({ cls := "java/lang/IllegalStateException", name := "<init>", desc := "()V" } : Jvm.MethodName) prog_54_method_1_code (1 : Nat) (Option.none : Option Jvm.ClassFile.FieldType)) ∈ lw_all := lw_g (lw_at lw_m11 6 rfl) rfl
theorem q2518 : (Jvm.Cond.methodLink "java/lang/IllegalStateException" (1 : Nat) ({ cls := "java/lang/RuntimeException", name := "<init>", desc := "()V" } : Jvm.MethodName)) ∈ lw_all := lw_g (lw_at lw_m11 7 rfl) rfl
theorem q2519 : (Jvm.Cond.lays "java/lang/IllegalStateException" "java/lang/Throwable" "depth" "I") ∈ lw_all := lw_g (lw_at lw_m11 8 rfl) rfl
theorem q2520 : (Jvm.Cond.superclass "java/lang/IllegalStateException" "java/lang/RuntimeException") ∈ lw_all := lw_g (lw_at lw_m11 9 rfl) rfl
theorem q3335 : (Jvm.Cond.castable "java/lang/IllegalStateException" "java/lang/Object") ∈ lw_tbl := lw_at lw_m14 104 rfl
theorem in_J6 : ∀ w ∈ wsJ60, w ∈ lw_all := lw_in wsJ60 [2510, 2511, 2512, 2513, 2514, 2519] (by decide +kernel) (by decide +kernel)

/-! java/lang/IllegalArgumentException -/
set_option maxRecDepth 100000
def RJ7 : String := "java/lang/IllegalArgumentException"
def TJ7 : u_T := fun k => match k with
  | 0 => ("java/lang/Throwable", "cause", "Ljava/lang/Throwable;", false)
  | 1 => ("java/lang/Throwable", "stackTrace", "[Ljava/lang/StackTraceElement;", false)
  | 2 => ("java/lang/Throwable", "suppressedExceptions", "Ljava/util/List;", false)
  | 3 => ("java/lang/Throwable", "detailMessage", "Ljava/lang/String;", false)
  | 4 => ("java/lang/Throwable", "backtrace", "Ljava/lang/Object;", false)
  | _ => ("java/lang/Throwable", "depth", "I", false)
def tyJ7 : Nat → FieldType := fun k => match k with
  | 0 => .object "java/lang/Throwable"
  | 1 => .array (.object "java/lang/StackTraceElement")
  | 2 => .object "java/util/List"
  | 3 => .object "java/lang/String"
  | 4 => .object "java/lang/Object"
  | _ => .int
abbrev wsJ70 : List Cond := u_ws RJ7 TJ7 6
theorem nmJ7 : ∀ a, a < 6 → ∀ b, b < 6 → a ≠ b → (TJ7 a).2.1 ≠ (TJ7 b).2.1 := by decide +kernel
theorem tyJ7_ok : ∀ k, k < 6 → parseFieldDescriptor (TJ7 k).2.2.1 = some (tyJ7 k) := by decide +kernel
abbrev cJ7_init : ByteArray := prog_53_method_2_code
def yJ7_init : MethodName := ⟨RJ7, "<init>", "(Ljava/lang/String;)V"⟩
def dkwJ7_init_0 : List UInt8 := [42, 43, 183, 0, 7, 177]
abbrev dktJ7_init_0 : List UInt8 := dkwJ7_init_0 ++ []
theorem dksJ7_init_0 : cJ7_init.data.toList.drop 0 = dktJ7_init_0 := by decide +kernel
theorem dJ7_init_0 : decode cJ7_init 0 = .ok (.aload_n 0, 1) := dk_42 (dk_at dksJ7_init_0 0 rfl rfl)
theorem dJ7_init_1 : decode cJ7_init 1 = .ok (.aload_n 1, 1) := dk_43 (dk_at dksJ7_init_0 1 rfl rfl)
theorem dJ7_init_2 : decode cJ7_init 2 = .ok (.invokespecial 7, 3) := dk_183 0 7 (dk_at dksJ7_init_0 2 rfl rfl)
theorem dJ7_init_5 : decode cJ7_init 5 = .ok (.return_, 1) := dk_177 (dk_at dksJ7_init_0 5 rfl rfl)
abbrev cJ7_init_2 : ByteArray := prog_53_method_1_code
def yJ7_init_2 : MethodName := ⟨RJ7, "<init>", "()V"⟩
theorem dJ7_init_2_0 : decode cJ7_init_2 0 = .ok (.aload_n 0, 1) := by decide +kernel
theorem dJ7_init_2_1 : decode cJ7_init_2 1 = .ok (.invokespecial 1, 3) := by decide +kernel
theorem dJ7_init_2_4 : decode cJ7_init_2 4 = .ok (.return_, 1) := by decide +kernel
theorem q125 : (Jvm.Cond.initialized "java/lang/IllegalArgumentException") ∈ lw_all := lw_g (lw_at lw_m1 14 rfl) rfl
theorem q538 : (Jvm.Cond.instantiable "java/lang/IllegalArgumentException" (6 : Nat)) ∈ lw_all := lw_g (lw_at lw_m2 187 rfl) rfl
theorem q539 : (Jvm.Cond.castable "java/lang/IllegalArgumentException" "java/lang/IllegalArgumentException") ∈ lw_tbl := lw_at lw_m2 188 rfl
theorem q546 : (Jvm.Cond.selects "java/lang/IllegalArgumentException" ({ cls := "java/lang/Throwable", name := "fillInStackTrace", desc := "(I)Ljava/lang/Throwable;" } : Jvm.MethodName) ({ cls := "java/lang/Throwable", name := "fillInStackTrace", desc := "(I)Ljava/lang/Throwable;" } : Jvm.MethodName)) ∈ lw_all := lw_g (lw_at lw_m2 195 rfl) rfl
theorem q547 : (Jvm.Cond.selects "java/lang/IllegalArgumentException" ({ cls := "java/lang/Throwable", name := "fillInStackTrace", desc := "()Ljava/lang/Throwable;" } : Jvm.MethodName) ({ cls := "java/lang/Throwable", name := "fillInStackTrace", desc := "()Ljava/lang/Throwable;" } : Jvm.MethodName)) ∈ lw_all := lw_g (lw_at lw_m2 196 rfl) rfl
theorem q548 : (Jvm.Cond.lays "java/lang/IllegalArgumentException" "java/lang/Throwable" "cause" "Ljava/lang/Throwable;") ∈ lw_all := lw_g (lw_at lw_m2 197 rfl) rfl
theorem q550 : (Jvm.Cond.lays "java/lang/IllegalArgumentException" "java/lang/Throwable" "stackTrace" "[Ljava/lang/StackTraceElement;") ∈ lw_all := lw_g (lw_at lw_m2 199 rfl) rfl
theorem q552 : (Jvm.Cond.lays "java/lang/IllegalArgumentException" "java/lang/Throwable" "suppressedExceptions" "Ljava/util/List;") ∈ lw_all := lw_g (lw_at lw_m2 201 rfl) rfl
theorem q554 : (Jvm.Cond.lays "java/lang/IllegalArgumentException" "java/lang/Throwable" "detailMessage" "Ljava/lang/String;") ∈ lw_all := lw_g (lw_at lw_m2 203 rfl) rfl
theorem q556 : (Jvm.Cond.lays "java/lang/IllegalArgumentException" "java/lang/Throwable" "backtrace" "Ljava/lang/Object;") ∈ lw_all := lw_g (lw_at lw_m2 205 rfl) rfl
theorem q657 : (Jvm.Cond.instanceMethod ({ cls := "java/lang/IllegalArgumentException", name := "<init>", desc := "(Ljava/lang/String;)V" } : Jvm.MethodName)) ∈ lw_all := lw_g (lw_at lw_m3 66 rfl) rfl
theorem q658 : (Jvm.Cond.code ({ cls := "java/lang/IllegalArgumentException", name := "<init>", desc := "(Ljava/lang/String;)V" } : Jvm.MethodName) prog_53_method_2_code (2 : Nat) (Option.none : Option Jvm.ClassFile.FieldType)) ∈ lw_all := lw_g (lw_at lw_m3 67 rfl) rfl
theorem q659 : (Jvm.Cond.methodLink "java/lang/IllegalArgumentException" (7 : Nat) ({ cls := "java/lang/RuntimeException", name := "<init>", desc := "(Ljava/lang/String;)V" } : Jvm.MethodName)) ∈ lw_all := lw_g (lw_at lw_m3 68 rfl) rfl
theorem q677 : (Jvm.Cond.lays "java/lang/IllegalArgumentException" "java/lang/Throwable" "depth" "I") ∈ lw_all := lw_g (lw_at lw_m3 86 rfl) rfl
theorem q680 : (Jvm.Cond.superclass "java/lang/IllegalArgumentException" "java/lang/RuntimeException") ∈ lw_all := lw_g (lw_at lw_m3 89 rfl) rfl
theorem q840 : (Jvm.Cond.selects "java/lang/IllegalArgumentException" ({ cls := "java/lang/Object", name := "getClass", desc := "()Ljava/lang/Class;" } : Jvm.MethodName) ({ cls := "java/lang/Object", name := "getClass", desc := "()Ljava/lang/Class;" } : Jvm.MethodName)) ∈ lw_all := lw_g (lw_at lw_m4 9 rfl) rfl
theorem q1069 : (Jvm.Cond.selects "java/lang/IllegalArgumentException" ({ cls := "java/lang/Object", name := "hashCode", desc := "()I" } : Jvm.MethodName) ({ cls := "java/lang/Object", name := "hashCode", desc := "()I" } : Jvm.MethodName)) ∈ lw_all := lw_g (lw_at lw_m4 238 rfl) rfl
theorem q1181 : (Jvm.Cond.selects "java/lang/IllegalArgumentException" ({ cls := "java/lang/Object", name := "equals", desc := "(Ljava/lang/Object;)Z" } : Jvm.MethodName) ({ cls := "java/lang/Object", name := "equals", desc := "(Ljava/lang/Object;)Z" } : Jvm.MethodName)) ∈ lw_all := lw_g (lw_at lw_m5 110 rfl) rfl
theorem q2541 : (Jvm.Cond.instanceMethod ({ cls := "java/lang/IllegalArgumentException", name := "<init>", desc := "()V" } : Jvm.MethodName)) ∈ lw_all := lw_g (lw_at lw_m11 30 rfl) rfl
theorem q2542 : (Jvm.Cond.code ({ cls := "java/lang/IllegalArgumentException", name := "<init>", desc := "()V" } : Jvm.MethodName) prog_53_method_1_code (1 : Nat) (Option.none : Option Jvm.ClassFile.FieldType)) ∈ lw_all := lw_g (lw_at lw_m11 31 rfl) rfl
theorem q2543 : (Jvm.Cond.methodLink "java/lang/IllegalArgumentException" (1 : Nat) ({ cls := "java/lang/RuntimeException", name := "<init>", desc := "()V" } : Jvm.MethodName)) ∈ lw_all := lw_g (lw_at lw_m11 32 rfl) rfl
theorem q3336 : (Jvm.Cond.castable "java/lang/IllegalArgumentException" "java/lang/Object") ∈ lw_tbl := lw_at lw_m14 105 rfl
theorem in_J7 : ∀ w ∈ wsJ70, w ∈ lw_all := lw_in wsJ70 [548, 550, 552, 554, 556, 677] (by decide +kernel) (by decide +kernel)

/-! GridTable$Reader -/
set_option maxRecDepth 100000
def RX7 : String := "GridTable$Reader"
def TX7 : u_T := fun k => match k with
  | 0 => ("GridTable$Reader", "tokens", "Ljava/util/List;", true)
  | 1 => ("GridTable$Reader", "at", "I", false)
  | 2 => ("GridTable$Reader", "depth", "I", false)
  | 3 => ("GridTable$Reader", "isSecond", "Z", false)
  | 4 => ("GridTable$Reader", "table", "LGridTable$Table;", false)
  | 5 => ("GridTable$Reader", "points", "Ljava/util/HashMap;", true)
  | _ => ("GridTable$Reader", "shapes", "Ljava/util/HashMap;", true)
def tyX7 : Nat → FieldType := fun k => match k with
  | 0 => .object "java/util/List"
  | 1 => .int
  | 2 => .int
  | 3 => .boolean
  | 4 => .object "GridTable$Table"
  | 5 => .object "java/util/HashMap"
  | _ => .object "java/util/HashMap"
abbrev wsX70 : List Cond := u_ws RX7 TX7 7
theorem nmX7 : ∀ a, a < 7 → ∀ b, b < 7 → a ≠ b → (TX7 a).2.1 ≠ (TX7 b).2.1 := by decide +kernel
theorem tyX7_ok : ∀ k, k < 7 → parseFieldDescriptor (TX7 k).2.2.1 = some (tyX7 k) := by decide +kernel
abbrev cX7_init : ByteArray := prog_15_method_1_code
def yX7_init : MethodName := ⟨RX7, "<init>", "(Ljava/util/List;)V"⟩
def dkwX7_init_1 : List UInt8 := [181, 0, 21, 42, 187, 0, 18, 89, 183, 0, 20, 181, 0, 25, 42, 43, 181, 0, 28, 177]
abbrev dktX7_init_1 : List UInt8 := dkwX7_init_1 ++ []
def dkwX7_init_0 : List UInt8 := [42, 183, 0, 3, 42, 187, 0, 9, 89, 183, 0, 11, 181, 0, 12, 42, 187, 0, 18, 89, 183, 0, 20]
abbrev dktX7_init_0 : List UInt8 := dkwX7_init_0 ++ dktX7_init_1
theorem dksX7_init_0 : cX7_init.data.toList.drop 0 = dktX7_init_0 := by decide +kernel
theorem dksX7_init_1 : cX7_init.data.toList.drop 23 = dktX7_init_1 := dk_seg dksX7_init_0 23 rfl rfl
theorem dX7_init_0 : decode cX7_init 0 = .ok (.aload_n 0, 1) := dk_42 (dk_at dksX7_init_0 0 rfl rfl)
theorem dX7_init_1 : decode cX7_init 1 = .ok (.invokespecial 3, 3) := dk_183 0 3 (dk_at dksX7_init_0 1 rfl rfl)
theorem dX7_init_4 : decode cX7_init 4 = .ok (.aload_n 0, 1) := dk_42 (dk_at dksX7_init_0 4 rfl rfl)
theorem dX7_init_5 : decode cX7_init 5 = .ok (.new 9, 3) := dk_187 0 9 (dk_at dksX7_init_0 5 rfl rfl)
theorem dX7_init_8 : decode cX7_init 8 = .ok (.dup, 1) := dk_89 (dk_at dksX7_init_0 8 rfl rfl)
theorem dX7_init_9 : decode cX7_init 9 = .ok (.invokespecial 11, 3) := dk_183 0 11 (dk_at dksX7_init_0 9 rfl rfl)
theorem dX7_init_12 : decode cX7_init 12 = .ok (.putfield 12, 3) := dk_181 0 12 (dk_at dksX7_init_0 12 rfl rfl)
theorem dX7_init_15 : decode cX7_init 15 = .ok (.aload_n 0, 1) := dk_42 (dk_at dksX7_init_0 15 rfl rfl)
theorem dX7_init_16 : decode cX7_init 16 = .ok (.new 18, 3) := dk_187 0 18 (dk_at dksX7_init_0 16 rfl rfl)
theorem dX7_init_19 : decode cX7_init 19 = .ok (.dup, 1) := dk_89 (dk_at dksX7_init_0 19 rfl rfl)
theorem dX7_init_20 : decode cX7_init 20 = .ok (.invokespecial 20, 3) := dk_183 0 20 (dk_at dksX7_init_0 20 rfl rfl)
theorem dX7_init_23 : decode cX7_init 23 = .ok (.putfield 21, 3) := dk_181 0 21 (dk_at dksX7_init_1 0 rfl rfl)
theorem dX7_init_26 : decode cX7_init 26 = .ok (.aload_n 0, 1) := dk_42 (dk_at dksX7_init_1 3 rfl rfl)
theorem dX7_init_27 : decode cX7_init 27 = .ok (.new 18, 3) := dk_187 0 18 (dk_at dksX7_init_1 4 rfl rfl)
theorem dX7_init_30 : decode cX7_init 30 = .ok (.dup, 1) := dk_89 (dk_at dksX7_init_1 7 rfl rfl)
theorem dX7_init_31 : decode cX7_init 31 = .ok (.invokespecial 20, 3) := dk_183 0 20 (dk_at dksX7_init_1 8 rfl rfl)
theorem dX7_init_34 : decode cX7_init 34 = .ok (.putfield 25, 3) := dk_181 0 25 (dk_at dksX7_init_1 11 rfl rfl)
theorem dX7_init_37 : decode cX7_init 37 = .ok (.aload_n 0, 1) := dk_42 (dk_at dksX7_init_1 14 rfl rfl)
theorem dX7_init_38 : decode cX7_init 38 = .ok (.aload_n 1, 1) := dk_43 (dk_at dksX7_init_1 15 rfl rfl)
theorem dX7_init_39 : decode cX7_init 39 = .ok (.putfield 28, 3) := dk_181 0 28 (dk_at dksX7_init_1 16 rfl rfl)
theorem dX7_init_42 : decode cX7_init 42 = .ok (.return_, 1) := dk_177 (dk_at dksX7_init_1 19 rfl rfl)
abbrev cX7_read : ByteArray := prog_15_method_9_code
def yX7_read : MethodName := ⟨RX7, "read", "()LGridTable$Table;"⟩
def dkwX7_read_1 : List UInt8 := [181, 0, 12, 42, 182, 0, 76, 42, 180, 0, 12, 176]
abbrev dktX7_read_1 : List UInt8 := dkwX7_read_1 ++ []
def dkwX7_read_0 : List UInt8 := [42, 182, 0, 76, 42, 3, 181, 0, 32, 42, 4, 181, 0, 79, 42, 187, 0, 9, 89, 183, 0, 11]
abbrev dktX7_read_0 : List UInt8 := dkwX7_read_0 ++ dktX7_read_1
theorem dksX7_read_0 : cX7_read.data.toList.drop 0 = dktX7_read_0 := by decide +kernel
theorem dksX7_read_1 : cX7_read.data.toList.drop 22 = dktX7_read_1 := dk_seg dksX7_read_0 22 rfl rfl
theorem dX7_read_0 : decode cX7_read 0 = .ok (.aload_n 0, 1) := dk_42 (dk_at dksX7_read_0 0 rfl rfl)
theorem dX7_read_1 : decode cX7_read 1 = .ok (.invokevirtual 76, 3) := dk_182 0 76 (dk_at dksX7_read_0 1 rfl rfl)
theorem dX7_read_4 : decode cX7_read 4 = .ok (.aload_n 0, 1) := dk_42 (dk_at dksX7_read_0 4 rfl rfl)
theorem dX7_read_5 : decode cX7_read 5 = .ok (.iconst 0, 1) := dk_3 (dk_at dksX7_read_0 5 rfl rfl)
theorem dX7_read_6 : decode cX7_read 6 = .ok (.putfield 32, 3) := dk_181 0 32 (dk_at dksX7_read_0 6 rfl rfl)
theorem dX7_read_9 : decode cX7_read 9 = .ok (.aload_n 0, 1) := dk_42 (dk_at dksX7_read_0 9 rfl rfl)
theorem dX7_read_10 : decode cX7_read 10 = .ok (.iconst 1, 1) := dk_4 (dk_at dksX7_read_0 10 rfl rfl)
theorem dX7_read_11 : decode cX7_read 11 = .ok (.putfield 79, 3) := dk_181 0 79 (dk_at dksX7_read_0 11 rfl rfl)
theorem dX7_read_14 : decode cX7_read 14 = .ok (.aload_n 0, 1) := dk_42 (dk_at dksX7_read_0 14 rfl rfl)
theorem dX7_read_15 : decode cX7_read 15 = .ok (.new 9, 3) := dk_187 0 9 (dk_at dksX7_read_0 15 rfl rfl)
theorem dX7_read_18 : decode cX7_read 18 = .ok (.dup, 1) := dk_89 (dk_at dksX7_read_0 18 rfl rfl)
theorem dX7_read_19 : decode cX7_read 19 = .ok (.invokespecial 11, 3) := dk_183 0 11 (dk_at dksX7_read_0 19 rfl rfl)
theorem dX7_read_22 : decode cX7_read 22 = .ok (.putfield 12, 3) := dk_181 0 12 (dk_at dksX7_read_1 0 rfl rfl)
theorem dX7_read_25 : decode cX7_read 25 = .ok (.aload_n 0, 1) := dk_42 (dk_at dksX7_read_1 3 rfl rfl)
theorem dX7_read_26 : decode cX7_read 26 = .ok (.invokevirtual 76, 3) := dk_182 0 76 (dk_at dksX7_read_1 4 rfl rfl)
theorem dX7_read_29 : decode cX7_read 29 = .ok (.aload_n 0, 1) := dk_42 (dk_at dksX7_read_1 7 rfl rfl)
theorem dX7_read_30 : decode cX7_read 30 = .ok (.getfield 12, 3) := dk_180 0 12 (dk_at dksX7_read_1 8 rfl rfl)
theorem dX7_read_33 : decode cX7_read 33 = .ok (.areturn, 1) := dk_176 (dk_at dksX7_read_1 11 rfl rfl)
abbrev cX7_list : ByteArray := prog_15_method_15_code
def yX7_list : MethodName := ⟨RX7, "list", "()V"⟩
def dkwX7_list_2 : List UInt8 := [167, 0, 8, 42, 43, 182, 0, 149, 42, 18, 153, 182, 0, 72, 167, 255, 195, 177]
abbrev dktX7_list_2 : List UInt8 := dkwX7_list_2 ++ []
def dkwX7_list_1 : List UInt8 := [153, 0, 10, 42, 182, 0, 143, 167, 0, 24, 42, 18, 145, 182, 0, 58, 153, 0, 10, 42, 182, 0, 147]
abbrev dktX7_list_1 : List UInt8 := dkwX7_list_1 ++ dktX7_list_2
def dkwX7_list_0 : List UInt8 := [42, 182, 0, 46, 180, 0, 65, 178, 0, 138, 165, 0, 54, 42, 182, 0, 46, 76, 42, 18, 141, 182, 0, 58]
abbrev dktX7_list_0 : List UInt8 := dkwX7_list_0 ++ dktX7_list_1
theorem dksX7_list_0 : cX7_list.data.toList.drop 0 = dktX7_list_0 := by decide +kernel
theorem dksX7_list_1 : cX7_list.data.toList.drop 24 = dktX7_list_1 := dk_seg dksX7_list_0 24 rfl rfl
theorem dksX7_list_2 : cX7_list.data.toList.drop 47 = dktX7_list_2 := dk_seg dksX7_list_1 23 rfl rfl
theorem dX7_list_0 : decode cX7_list 0 = .ok (.aload_n 0, 1) := dk_42 (dk_at dksX7_list_0 0 rfl rfl)
theorem dX7_list_1 : decode cX7_list 1 = .ok (.invokevirtual 46, 3) := dk_182 0 46 (dk_at dksX7_list_0 1 rfl rfl)
theorem dX7_list_4 : decode cX7_list 4 = .ok (.getfield 65, 3) := dk_180 0 65 (dk_at dksX7_list_0 4 rfl rfl)
theorem dX7_list_7 : decode cX7_list 7 = .ok (.getstatic 138, 3) := dk_178 0 138 (dk_at dksX7_list_0 7 rfl rfl)
theorem dX7_list_10 : decode cX7_list 10 = .ok (.if_acmp .eq 54, 3) := dk_165 0 54 (dk_at dksX7_list_0 10 rfl rfl)
theorem dX7_list_13 : decode cX7_list 13 = .ok (.aload_n 0, 1) := dk_42 (dk_at dksX7_list_0 13 rfl rfl)
theorem dX7_list_14 : decode cX7_list 14 = .ok (.invokevirtual 46, 3) := dk_182 0 46 (dk_at dksX7_list_0 14 rfl rfl)
theorem dX7_list_17 : decode cX7_list 17 = .ok (.astore_n 1, 1) := dk_76 (dk_at dksX7_list_0 17 rfl rfl)
theorem dX7_list_18 : decode cX7_list 18 = .ok (.aload_n 0, 1) := dk_42 (dk_at dksX7_list_0 18 rfl rfl)
theorem dX7_list_19 : decode cX7_list 19 = .ok (.ldc 141, 2) := dk_18 141 (dk_at dksX7_list_0 19 rfl rfl)
theorem dX7_list_21 : decode cX7_list 21 = .ok (.invokevirtual 58, 3) := dk_182 0 58 (dk_at dksX7_list_0 21 rfl rfl)
theorem dX7_list_24 : decode cX7_list 24 = .ok (.ifCond .eq 10, 3) := dk_153 0 10 (dk_at dksX7_list_1 0 rfl rfl)
theorem dX7_list_27 : decode cX7_list 27 = .ok (.aload_n 0, 1) := dk_42 (dk_at dksX7_list_1 3 rfl rfl)
theorem dX7_list_28 : decode cX7_list 28 = .ok (.invokevirtual 143, 3) := dk_182 0 143 (dk_at dksX7_list_1 4 rfl rfl)
theorem dX7_list_31 : decode cX7_list 31 = .ok (.goto 24, 3) := dk_167 0 24 (dk_at dksX7_list_1 7 rfl rfl)
theorem dX7_list_34 : decode cX7_list 34 = .ok (.aload_n 0, 1) := dk_42 (dk_at dksX7_list_1 10 rfl rfl)
theorem dX7_list_35 : decode cX7_list 35 = .ok (.ldc 145, 2) := dk_18 145 (dk_at dksX7_list_1 11 rfl rfl)
theorem dX7_list_37 : decode cX7_list 37 = .ok (.invokevirtual 58, 3) := dk_182 0 58 (dk_at dksX7_list_1 13 rfl rfl)
theorem dX7_list_40 : decode cX7_list 40 = .ok (.ifCond .eq 10, 3) := dk_153 0 10 (dk_at dksX7_list_1 16 rfl rfl)
theorem dX7_list_43 : decode cX7_list 43 = .ok (.aload_n 0, 1) := dk_42 (dk_at dksX7_list_1 19 rfl rfl)
theorem dX7_list_44 : decode cX7_list 44 = .ok (.invokevirtual 147, 3) := dk_182 0 147 (dk_at dksX7_list_1 20 rfl rfl)
theorem dX7_list_47 : decode cX7_list 47 = .ok (.goto 8, 3) := dk_167 0 8 (dk_at dksX7_list_2 0 rfl rfl)
theorem dX7_list_50 : decode cX7_list 50 = .ok (.aload_n 0, 1) := dk_42 (dk_at dksX7_list_2 3 rfl rfl)
theorem dX7_list_51 : decode cX7_list 51 = .ok (.aload_n 1, 1) := dk_43 (dk_at dksX7_list_2 4 rfl rfl)
theorem dX7_list_52 : decode cX7_list 52 = .ok (.invokevirtual 149, 3) := dk_182 0 149 (dk_at dksX7_list_2 5 rfl rfl)
theorem dX7_list_55 : decode cX7_list 55 = .ok (.aload_n 0, 1) := dk_42 (dk_at dksX7_list_2 8 rfl rfl)
theorem dX7_list_56 : decode cX7_list 56 = .ok (.ldc 153, 2) := dk_18 153 (dk_at dksX7_list_2 9 rfl rfl)
theorem dX7_list_58 : decode cX7_list 58 = .ok (.invokevirtual 72, 3) := dk_182 0 72 (dk_at dksX7_list_2 11 rfl rfl)
theorem dX7_list_61 : decode cX7_list 61 = .ok (.goto (-61), 3) := dk_167 255 195 (dk_at dksX7_list_2 14 rfl rfl)
theorem dX7_list_64 : decode cX7_list 64 = .ok (.return_, 1) := dk_177 (dk_at dksX7_list_2 17 rfl rfl)
abbrev cX7_now : ByteArray := prog_15_method_2_code
def yX7_now : MethodName := ⟨RX7, "now", "()LGridTable$Token;"⟩
def dkwX7_now_0 : List UInt8 := [42, 180, 0, 28, 42, 180, 0, 32, 185, 0, 36, 2, 0, 192, 0, 42, 176]
abbrev dktX7_now_0 : List UInt8 := dkwX7_now_0 ++ []
theorem dksX7_now_0 : cX7_now.data.toList.drop 0 = dktX7_now_0 := by decide +kernel
theorem dX7_now_0 : decode cX7_now 0 = .ok (.aload_n 0, 1) := dk_42 (dk_at dksX7_now_0 0 rfl rfl)
theorem dX7_now_1 : decode cX7_now 1 = .ok (.getfield 28, 3) := dk_180 0 28 (dk_at dksX7_now_0 1 rfl rfl)
theorem dX7_now_4 : decode cX7_now 4 = .ok (.aload_n 0, 1) := dk_42 (dk_at dksX7_now_0 4 rfl rfl)
theorem dX7_now_5 : decode cX7_now 5 = .ok (.getfield 32, 3) := dk_180 0 32 (dk_at dksX7_now_0 5 rfl rfl)
theorem dX7_now_8 : decode cX7_now 8 = .ok (.invokeinterface 36 2, 5) := by decide +kernel
theorem dX7_now_13 : decode cX7_now 13 = .ok (.checkcast 42, 3) := dk_192 0 42 (dk_at dksX7_now_0 13 rfl rfl)
theorem dX7_now_16 : decode cX7_now 16 = .ok (.areturn, 1) := dk_176 (dk_at dksX7_now_0 16 rfl rfl)
abbrev cX7_takeIf : ByteArray := prog_15_method_4_code
def yX7_takeIf : MethodName := ⟨RX7, "takeIf", "(Ljava/lang/String;)Z"⟩
def dkwX7_takeIf_1 : List UInt8 := [172]
abbrev dktX7_takeIf_1 : List UInt8 := dkwX7_takeIf_1 ++ []
def dkwX7_takeIf_0 : List UInt8 := [42, 182, 0, 46, 43, 182, 0, 54, 61, 28, 153, 0, 13, 42, 89, 180, 0, 32, 4, 96, 181, 0, 32, 28]
abbrev dktX7_takeIf_0 : List UInt8 := dkwX7_takeIf_0 ++ dktX7_takeIf_1
theorem dksX7_takeIf_0 : cX7_takeIf.data.toList.drop 0 = dktX7_takeIf_0 := by decide +kernel
theorem dksX7_takeIf_1 : cX7_takeIf.data.toList.drop 24 = dktX7_takeIf_1 := dk_seg dksX7_takeIf_0 24 rfl rfl
theorem dX7_takeIf_0 : decode cX7_takeIf 0 = .ok (.aload_n 0, 1) := dk_42 (dk_at dksX7_takeIf_0 0 rfl rfl)
theorem dX7_takeIf_1 : decode cX7_takeIf 1 = .ok (.invokevirtual 46, 3) := dk_182 0 46 (dk_at dksX7_takeIf_0 1 rfl rfl)
theorem dX7_takeIf_4 : decode cX7_takeIf 4 = .ok (.aload_n 1, 1) := dk_43 (dk_at dksX7_takeIf_0 4 rfl rfl)
theorem dX7_takeIf_5 : decode cX7_takeIf 5 = .ok (.invokevirtual 54, 3) := dk_182 0 54 (dk_at dksX7_takeIf_0 5 rfl rfl)
theorem dX7_takeIf_8 : decode cX7_takeIf 8 = .ok (.istore_n 2, 1) := dk_61 (dk_at dksX7_takeIf_0 8 rfl rfl)
theorem dX7_takeIf_9 : decode cX7_takeIf 9 = .ok (.iload_n 2, 1) := dk_28 (dk_at dksX7_takeIf_0 9 rfl rfl)
theorem dX7_takeIf_10 : decode cX7_takeIf 10 = .ok (.ifCond .eq 13, 3) := dk_153 0 13 (dk_at dksX7_takeIf_0 10 rfl rfl)
theorem dX7_takeIf_13 : decode cX7_takeIf 13 = .ok (.aload_n 0, 1) := dk_42 (dk_at dksX7_takeIf_0 13 rfl rfl)
theorem dX7_takeIf_14 : decode cX7_takeIf 14 = .ok (.dup, 1) := dk_89 (dk_at dksX7_takeIf_0 14 rfl rfl)
theorem dX7_takeIf_15 : decode cX7_takeIf 15 = .ok (.getfield 32, 3) := dk_180 0 32 (dk_at dksX7_takeIf_0 15 rfl rfl)
theorem dX7_takeIf_18 : decode cX7_takeIf 18 = .ok (.iconst 1, 1) := dk_4 (dk_at dksX7_takeIf_0 18 rfl rfl)
theorem dX7_takeIf_19 : decode cX7_takeIf 19 = .ok (.iadd, 1) := dk_96 (dk_at dksX7_takeIf_0 19 rfl rfl)
theorem dX7_takeIf_20 : decode cX7_takeIf 20 = .ok (.putfield 32, 3) := dk_181 0 32 (dk_at dksX7_takeIf_0 20 rfl rfl)
theorem dX7_takeIf_23 : decode cX7_takeIf 23 = .ok (.iload_n 2, 1) := dk_28 (dk_at dksX7_takeIf_0 23 rfl rfl)
theorem dX7_takeIf_24 : decode cX7_takeIf 24 = .ok (.ireturn, 1) := dk_172 (dk_at dksX7_takeIf_1 0 rfl rfl)
abbrev cX7_point : ByteArray := prog_15_method_16_code
def yX7_point : MethodName := ⟨RX7, "point", "()V"⟩
def dkwX7_point_4 : List UInt8 := [182, 0, 177, 177]
abbrev dktX7_point_4 : List UInt8 := dkwX7_point_4 ++ []
def dkwX7_point_3 : List UInt8 := [182, 0, 174, 42, 180, 0, 12, 89, 180, 0, 166, 4, 96, 181, 0, 166, 42, 42, 180, 0, 21, 43]
abbrev dktX7_point_3 : List UInt8 := dkwX7_point_3 ++ dktX7_point_4
def dkwX7_point_2 : List UInt8 := [180, 0, 12, 180, 0, 166, 44, 42, 180, 0, 12, 182, 0, 168, 133, 45, 42, 180, 0, 12, 182, 0, 168, 133]
abbrev dktX7_point_2 : List UInt8 := dkwX7_point_2 ++ dktX7_point_3
def dkwX7_point_1 : List UInt8 := [18, 164, 182, 0, 72, 42, 182, 0, 160, 78, 42, 180, 0, 79, 154, 0, 4, 177, 42, 180, 0, 12, 42]
abbrev dktX7_point_1 : List UInt8 := dkwX7_point_1 ++ dktX7_point_2
def dkwX7_point_0 : List UInt8 := [42, 42, 180, 0, 21, 16, 16, 182, 0, 155, 76, 42, 18, 159, 182, 0, 72, 42, 182, 0, 160, 77, 42]
abbrev dktX7_point_0 : List UInt8 := dkwX7_point_0 ++ dktX7_point_1
theorem dksX7_point_0 : cX7_point.data.toList.drop 0 = dktX7_point_0 := by decide +kernel
theorem dksX7_point_1 : cX7_point.data.toList.drop 23 = dktX7_point_1 := dk_seg dksX7_point_0 23 rfl rfl
theorem dksX7_point_2 : cX7_point.data.toList.drop 46 = dktX7_point_2 := dk_seg dksX7_point_1 23 rfl rfl
theorem dksX7_point_3 : cX7_point.data.toList.drop 70 = dktX7_point_3 := dk_seg dksX7_point_2 24 rfl rfl
theorem dksX7_point_4 : cX7_point.data.toList.drop 92 = dktX7_point_4 := dk_seg dksX7_point_3 22 rfl rfl
theorem dX7_point_0 : decode cX7_point 0 = .ok (.aload_n 0, 1) := dk_42 (dk_at dksX7_point_0 0 rfl rfl)
theorem dX7_point_1 : decode cX7_point 1 = .ok (.aload_n 0, 1) := dk_42 (dk_at dksX7_point_0 1 rfl rfl)
theorem dX7_point_2 : decode cX7_point 2 = .ok (.getfield 21, 3) := dk_180 0 21 (dk_at dksX7_point_0 2 rfl rfl)
theorem dX7_point_5 : decode cX7_point 5 = .ok (.bipush 16, 2) := dk_16 16 (dk_at dksX7_point_0 5 rfl rfl)
theorem dX7_point_7 : decode cX7_point 7 = .ok (.invokevirtual 155, 3) := dk_182 0 155 (dk_at dksX7_point_0 7 rfl rfl)
theorem dX7_point_10 : decode cX7_point 10 = .ok (.astore_n 1, 1) := dk_76 (dk_at dksX7_point_0 10 rfl rfl)
theorem dX7_point_11 : decode cX7_point 11 = .ok (.aload_n 0, 1) := dk_42 (dk_at dksX7_point_0 11 rfl rfl)
theorem dX7_point_12 : decode cX7_point 12 = .ok (.ldc 159, 2) := dk_18 159 (dk_at dksX7_point_0 12 rfl rfl)
theorem dX7_point_14 : decode cX7_point 14 = .ok (.invokevirtual 72, 3) := dk_182 0 72 (dk_at dksX7_point_0 14 rfl rfl)
theorem dX7_point_17 : decode cX7_point 17 = .ok (.aload_n 0, 1) := dk_42 (dk_at dksX7_point_0 17 rfl rfl)
theorem dX7_point_18 : decode cX7_point 18 = .ok (.invokevirtual 160, 3) := dk_182 0 160 (dk_at dksX7_point_0 18 rfl rfl)
theorem dX7_point_21 : decode cX7_point 21 = .ok (.astore_n 2, 1) := dk_77 (dk_at dksX7_point_0 21 rfl rfl)
theorem dX7_point_22 : decode cX7_point 22 = .ok (.aload_n 0, 1) := dk_42 (dk_at dksX7_point_0 22 rfl rfl)
theorem dX7_point_23 : decode cX7_point 23 = .ok (.ldc 164, 2) := dk_18 164 (dk_at dksX7_point_1 0 rfl rfl)
theorem dX7_point_25 : decode cX7_point 25 = .ok (.invokevirtual 72, 3) := dk_182 0 72 (dk_at dksX7_point_1 2 rfl rfl)
theorem dX7_point_28 : decode cX7_point 28 = .ok (.aload_n 0, 1) := dk_42 (dk_at dksX7_point_1 5 rfl rfl)
theorem dX7_point_29 : decode cX7_point 29 = .ok (.invokevirtual 160, 3) := dk_182 0 160 (dk_at dksX7_point_1 6 rfl rfl)
theorem dX7_point_32 : decode cX7_point 32 = .ok (.astore_n 3, 1) := dk_78 (dk_at dksX7_point_1 9 rfl rfl)
theorem dX7_point_33 : decode cX7_point 33 = .ok (.aload_n 0, 1) := dk_42 (dk_at dksX7_point_1 10 rfl rfl)
theorem dX7_point_34 : decode cX7_point 34 = .ok (.getfield 79, 3) := dk_180 0 79 (dk_at dksX7_point_1 11 rfl rfl)
theorem dX7_point_37 : decode cX7_point 37 = .ok (.ifCond .ne 4, 3) := dk_154 0 4 (dk_at dksX7_point_1 14 rfl rfl)
theorem dX7_point_40 : decode cX7_point 40 = .ok (.return_, 1) := dk_177 (dk_at dksX7_point_1 17 rfl rfl)
theorem dX7_point_41 : decode cX7_point 41 = .ok (.aload_n 0, 1) := dk_42 (dk_at dksX7_point_1 18 rfl rfl)
theorem dX7_point_42 : decode cX7_point 42 = .ok (.getfield 12, 3) := dk_180 0 12 (dk_at dksX7_point_1 19 rfl rfl)
theorem dX7_point_45 : decode cX7_point 45 = .ok (.aload_n 0, 1) := dk_42 (dk_at dksX7_point_1 22 rfl rfl)
theorem dX7_point_46 : decode cX7_point 46 = .ok (.getfield 12, 3) := dk_180 0 12 (dk_at dksX7_point_2 0 rfl rfl)
theorem dX7_point_49 : decode cX7_point 49 = .ok (.getfield 166, 3) := dk_180 0 166 (dk_at dksX7_point_2 3 rfl rfl)
theorem dX7_point_52 : decode cX7_point 52 = .ok (.aload_n 2, 1) := dk_44 (dk_at dksX7_point_2 6 rfl rfl)
theorem dX7_point_53 : decode cX7_point 53 = .ok (.aload_n 0, 1) := dk_42 (dk_at dksX7_point_2 7 rfl rfl)
theorem dX7_point_54 : decode cX7_point 54 = .ok (.getfield 12, 3) := dk_180 0 12 (dk_at dksX7_point_2 8 rfl rfl)
theorem dX7_point_57 : decode cX7_point 57 = .ok (.invokevirtual 168, 3) := dk_182 0 168 (dk_at dksX7_point_2 11 rfl rfl)
theorem dX7_point_60 : decode cX7_point 60 = .ok (.i2l, 1) := dk_133 (dk_at dksX7_point_2 14 rfl rfl)
theorem dX7_point_61 : decode cX7_point 61 = .ok (.aload_n 3, 1) := dk_45 (dk_at dksX7_point_2 15 rfl rfl)
theorem dX7_point_62 : decode cX7_point 62 = .ok (.aload_n 0, 1) := dk_42 (dk_at dksX7_point_2 16 rfl rfl)
theorem dX7_point_63 : decode cX7_point 63 = .ok (.getfield 12, 3) := dk_180 0 12 (dk_at dksX7_point_2 17 rfl rfl)
theorem dX7_point_66 : decode cX7_point 66 = .ok (.invokevirtual 168, 3) := dk_182 0 168 (dk_at dksX7_point_2 20 rfl rfl)
theorem dX7_point_69 : decode cX7_point 69 = .ok (.i2l, 1) := dk_133 (dk_at dksX7_point_2 23 rfl rfl)
theorem dX7_point_70 : decode cX7_point 70 = .ok (.invokevirtual 174, 3) := dk_182 0 174 (dk_at dksX7_point_3 0 rfl rfl)
theorem dX7_point_73 : decode cX7_point 73 = .ok (.aload_n 0, 1) := dk_42 (dk_at dksX7_point_3 3 rfl rfl)
theorem dX7_point_74 : decode cX7_point 74 = .ok (.getfield 12, 3) := dk_180 0 12 (dk_at dksX7_point_3 4 rfl rfl)
theorem dX7_point_77 : decode cX7_point 77 = .ok (.dup, 1) := dk_89 (dk_at dksX7_point_3 7 rfl rfl)
theorem dX7_point_78 : decode cX7_point 78 = .ok (.getfield 166, 3) := dk_180 0 166 (dk_at dksX7_point_3 8 rfl rfl)
theorem dX7_point_81 : decode cX7_point 81 = .ok (.iconst 1, 1) := dk_4 (dk_at dksX7_point_3 11 rfl rfl)
theorem dX7_point_82 : decode cX7_point 82 = .ok (.iadd, 1) := dk_96 (dk_at dksX7_point_3 12 rfl rfl)
theorem dX7_point_83 : decode cX7_point 83 = .ok (.putfield 166, 3) := dk_181 0 166 (dk_at dksX7_point_3 13 rfl rfl)
theorem dX7_point_86 : decode cX7_point 86 = .ok (.aload_n 0, 1) := dk_42 (dk_at dksX7_point_3 16 rfl rfl)
theorem dX7_point_87 : decode cX7_point 87 = .ok (.aload_n 0, 1) := dk_42 (dk_at dksX7_point_3 17 rfl rfl)
theorem dX7_point_88 : decode cX7_point 88 = .ok (.getfield 21, 3) := dk_180 0 21 (dk_at dksX7_point_3 18 rfl rfl)
theorem dX7_point_91 : decode cX7_point 91 = .ok (.aload_n 1, 1) := dk_43 (dk_at dksX7_point_3 21 rfl rfl)
theorem dX7_point_92 : decode cX7_point 92 = .ok (.invokevirtual 177, 3) := dk_182 0 177 (dk_at dksX7_point_4 0 rfl rfl)
theorem dX7_point_95 : decode cX7_point 95 = .ok (.return_, 1) := dk_177 (dk_at dksX7_point_4 3 rfl rfl)
abbrev cX7_name : ByteArray := prog_15_method_11_code
def yX7_name : MethodName := ⟨RX7, "name", "(Ljava/util/HashMap;I)Ljava/lang/String;"⟩
def dkwX7_name_2 : List UInt8 := [182, 0, 99, 45, 180, 0, 91, 176]
abbrev dktX7_name_2 : List UInt8 := dkwX7_name_2 ++ []
def dkwX7_name_1 : List UInt8 := [167, 0, 4, 3, 45, 182, 0, 99, 42, 7, 43, 182, 0, 103, 28, 162, 0, 7, 4, 167, 0, 4, 3, 45]
abbrev dktX7_name_1 : List UInt8 := dkwX7_name_1 ++ dktX7_name_2
def dkwX7_name_0 : List UInt8 := [42, 178, 0, 83, 182, 0, 88, 78, 42, 5, 43, 45, 180, 0, 91, 182, 0, 95, 154, 0, 7, 4]
abbrev dktX7_name_0 : List UInt8 := dkwX7_name_0 ++ dktX7_name_1
theorem dksX7_name_0 : cX7_name.data.toList.drop 0 = dktX7_name_0 := by decide +kernel
theorem dksX7_name_1 : cX7_name.data.toList.drop 22 = dktX7_name_1 := dk_seg dksX7_name_0 22 rfl rfl
theorem dksX7_name_2 : cX7_name.data.toList.drop 46 = dktX7_name_2 := dk_seg dksX7_name_1 24 rfl rfl
theorem dX7_name_0 : decode cX7_name 0 = .ok (.aload_n 0, 1) := dk_42 (dk_at dksX7_name_0 0 rfl rfl)
theorem dX7_name_1 : decode cX7_name 1 = .ok (.getstatic 83, 3) := dk_178 0 83 (dk_at dksX7_name_0 1 rfl rfl)
theorem dX7_name_4 : decode cX7_name 4 = .ok (.invokevirtual 88, 3) := dk_182 0 88 (dk_at dksX7_name_0 4 rfl rfl)
theorem dX7_name_7 : decode cX7_name 7 = .ok (.astore_n 3, 1) := dk_78 (dk_at dksX7_name_0 7 rfl rfl)
theorem dX7_name_8 : decode cX7_name 8 = .ok (.aload_n 0, 1) := dk_42 (dk_at dksX7_name_0 8 rfl rfl)
theorem dX7_name_9 : decode cX7_name 9 = .ok (.iconst 2, 1) := dk_5 (dk_at dksX7_name_0 9 rfl rfl)
theorem dX7_name_10 : decode cX7_name 10 = .ok (.aload_n 1, 1) := dk_43 (dk_at dksX7_name_0 10 rfl rfl)
theorem dX7_name_11 : decode cX7_name 11 = .ok (.aload_n 3, 1) := dk_45 (dk_at dksX7_name_0 11 rfl rfl)
theorem dX7_name_12 : decode cX7_name 12 = .ok (.getfield 91, 3) := dk_180 0 91 (dk_at dksX7_name_0 12 rfl rfl)
theorem dX7_name_15 : decode cX7_name 15 = .ok (.invokevirtual 95, 3) := dk_182 0 95 (dk_at dksX7_name_0 15 rfl rfl)
theorem dX7_name_18 : decode cX7_name 18 = .ok (.ifCond .ne 7, 3) := dk_154 0 7 (dk_at dksX7_name_0 18 rfl rfl)
theorem dX7_name_21 : decode cX7_name 21 = .ok (.iconst 1, 1) := dk_4 (dk_at dksX7_name_0 21 rfl rfl)
theorem dX7_name_22 : decode cX7_name 22 = .ok (.goto 4, 3) := dk_167 0 4 (dk_at dksX7_name_1 0 rfl rfl)
theorem dX7_name_25 : decode cX7_name 25 = .ok (.iconst 0, 1) := dk_3 (dk_at dksX7_name_1 3 rfl rfl)
theorem dX7_name_26 : decode cX7_name 26 = .ok (.aload_n 3, 1) := dk_45 (dk_at dksX7_name_1 4 rfl rfl)
theorem dX7_name_27 : decode cX7_name 27 = .ok (.invokevirtual 99, 3) := dk_182 0 99 (dk_at dksX7_name_1 5 rfl rfl)
theorem dX7_name_30 : decode cX7_name 30 = .ok (.aload_n 0, 1) := dk_42 (dk_at dksX7_name_1 8 rfl rfl)
theorem dX7_name_31 : decode cX7_name 31 = .ok (.iconst 4, 1) := dk_7 (dk_at dksX7_name_1 9 rfl rfl)
theorem dX7_name_32 : decode cX7_name 32 = .ok (.aload_n 1, 1) := dk_43 (dk_at dksX7_name_1 10 rfl rfl)
theorem dX7_name_33 : decode cX7_name 33 = .ok (.invokevirtual 103, 3) := dk_182 0 103 (dk_at dksX7_name_1 11 rfl rfl)
theorem dX7_name_36 : decode cX7_name 36 = .ok (.iload_n 2, 1) := dk_28 (dk_at dksX7_name_1 14 rfl rfl)
theorem dX7_name_37 : decode cX7_name 37 = .ok (.if_icmp .ge 7, 3) := dk_162 0 7 (dk_at dksX7_name_1 15 rfl rfl)
theorem dX7_name_40 : decode cX7_name 40 = .ok (.iconst 1, 1) := dk_4 (dk_at dksX7_name_1 18 rfl rfl)
theorem dX7_name_41 : decode cX7_name 41 = .ok (.goto 4, 3) := dk_167 0 4 (dk_at dksX7_name_1 19 rfl rfl)
theorem dX7_name_44 : decode cX7_name 44 = .ok (.iconst 0, 1) := dk_3 (dk_at dksX7_name_1 22 rfl rfl)
theorem dX7_name_45 : decode cX7_name 45 = .ok (.aload_n 3, 1) := dk_45 (dk_at dksX7_name_1 23 rfl rfl)
theorem dX7_name_46 : decode cX7_name 46 = .ok (.invokevirtual 99, 3) := dk_182 0 99 (dk_at dksX7_name_2 0 rfl rfl)
theorem dX7_name_49 : decode cX7_name 49 = .ok (.aload_n 3, 1) := dk_45 (dk_at dksX7_name_2 3 rfl rfl)
theorem dX7_name_50 : decode cX7_name 50 = .ok (.getfield 91, 3) := dk_180 0 91 (dk_at dksX7_name_2 4 rfl rfl)
theorem dX7_name_53 : decode cX7_name 53 = .ok (.areturn, 1) := dk_176 (dk_at dksX7_name_2 7 rfl rfl)
abbrev cX7_take : ByteArray := prog_15_method_6_code
def yX7_take : MethodName := ⟨RX7, "take", "(LGridTable$Sort;)LGridTable$Token;"⟩
def dkwX7_take_1 : List UInt8 := [96, 181, 0, 32, 44, 176]
abbrev dktX7_take_1 : List UInt8 := dkwX7_take_1 ++ []
def dkwX7_take_0 : List UInt8 := [42, 182, 0, 46, 77, 44, 180, 0, 65, 43, 165, 0, 8, 42, 182, 0, 61, 191, 42, 89, 180, 0, 32, 4]
abbrev dktX7_take_0 : List UInt8 := dkwX7_take_0 ++ dktX7_take_1
theorem dksX7_take_0 : cX7_take.data.toList.drop 0 = dktX7_take_0 := by decide +kernel
theorem dksX7_take_1 : cX7_take.data.toList.drop 24 = dktX7_take_1 := dk_seg dksX7_take_0 24 rfl rfl
theorem dX7_take_0 : decode cX7_take 0 = .ok (.aload_n 0, 1) := dk_42 (dk_at dksX7_take_0 0 rfl rfl)
theorem dX7_take_1 : decode cX7_take 1 = .ok (.invokevirtual 46, 3) := dk_182 0 46 (dk_at dksX7_take_0 1 rfl rfl)
theorem dX7_take_4 : decode cX7_take 4 = .ok (.astore_n 2, 1) := dk_77 (dk_at dksX7_take_0 4 rfl rfl)
theorem dX7_take_5 : decode cX7_take 5 = .ok (.aload_n 2, 1) := dk_44 (dk_at dksX7_take_0 5 rfl rfl)
theorem dX7_take_6 : decode cX7_take 6 = .ok (.getfield 65, 3) := dk_180 0 65 (dk_at dksX7_take_0 6 rfl rfl)
theorem dX7_take_9 : decode cX7_take 9 = .ok (.aload_n 1, 1) := dk_43 (dk_at dksX7_take_0 9 rfl rfl)
theorem dX7_take_10 : decode cX7_take 10 = .ok (.if_acmp .eq 8, 3) := dk_165 0 8 (dk_at dksX7_take_0 10 rfl rfl)
theorem dX7_take_13 : decode cX7_take 13 = .ok (.aload_n 0, 1) := dk_42 (dk_at dksX7_take_0 13 rfl rfl)
theorem dX7_take_14 : decode cX7_take 14 = .ok (.invokevirtual 61, 3) := dk_182 0 61 (dk_at dksX7_take_0 14 rfl rfl)
theorem dX7_take_17 : decode cX7_take 17 = .ok (.athrow, 1) := dk_191 (dk_at dksX7_take_0 17 rfl rfl)
theorem dX7_take_18 : decode cX7_take 18 = .ok (.aload_n 0, 1) := dk_42 (dk_at dksX7_take_0 18 rfl rfl)
theorem dX7_take_19 : decode cX7_take 19 = .ok (.dup, 1) := dk_89 (dk_at dksX7_take_0 19 rfl rfl)
theorem dX7_take_20 : decode cX7_take 20 = .ok (.getfield 32, 3) := dk_180 0 32 (dk_at dksX7_take_0 20 rfl rfl)
theorem dX7_take_23 : decode cX7_take 23 = .ok (.iconst 1, 1) := dk_4 (dk_at dksX7_take_0 23 rfl rfl)
theorem dX7_take_24 : decode cX7_take 24 = .ok (.iadd, 1) := dk_96 (dk_at dksX7_take_1 0 rfl rfl)
theorem dX7_take_25 : decode cX7_take 25 = .ok (.putfield 32, 3) := dk_181 0 32 (dk_at dksX7_take_1 1 rfl rfl)
theorem dX7_take_28 : decode cX7_take 28 = .ok (.aload_n 2, 1) := dk_44 (dk_at dksX7_take_1 4 rfl rfl)
theorem dX7_take_29 : decode cX7_take 29 = .ok (.areturn, 1) := dk_176 (dk_at dksX7_take_1 5 rfl rfl)
abbrev cX7_wrong : ByteArray := prog_15_method_3_code
def yX7_wrong : MethodName := ⟨RX7, "wrong", "()LGridTable$Fault;"⟩
def dkwX7_wrong_0 : List UInt8 := [187, 0, 44, 89, 4, 42, 182, 0, 46, 180, 0, 50, 183, 0, 51, 176]
abbrev dktX7_wrong_0 : List UInt8 := dkwX7_wrong_0 ++ []
theorem dksX7_wrong_0 : cX7_wrong.data.toList.drop 0 = dktX7_wrong_0 := by decide +kernel
theorem dX7_wrong_0 : decode cX7_wrong 0 = .ok (.new 44, 3) := dk_187 0 44 (dk_at dksX7_wrong_0 0 rfl rfl)
theorem dX7_wrong_3 : decode cX7_wrong 3 = .ok (.dup, 1) := dk_89 (dk_at dksX7_wrong_0 3 rfl rfl)
theorem dX7_wrong_4 : decode cX7_wrong 4 = .ok (.iconst 1, 1) := dk_4 (dk_at dksX7_wrong_0 4 rfl rfl)
theorem dX7_wrong_5 : decode cX7_wrong 5 = .ok (.aload_n 0, 1) := dk_42 (dk_at dksX7_wrong_0 5 rfl rfl)
theorem dX7_wrong_6 : decode cX7_wrong 6 = .ok (.invokevirtual 46, 3) := dk_182 0 46 (dk_at dksX7_wrong_0 6 rfl rfl)
theorem dX7_wrong_9 : decode cX7_wrong 9 = .ok (.getfield 50, 3) := dk_180 0 50 (dk_at dksX7_wrong_0 9 rfl rfl)
theorem dX7_wrong_12 : decode cX7_wrong 12 = .ok (.invokespecial 51, 3) := dk_183 0 51 (dk_at dksX7_wrong_0 12 rfl rfl)
theorem dX7_wrong_15 : decode cX7_wrong 15 = .ok (.areturn, 1) := dk_176 (dk_at dksX7_wrong_0 15 rfl rfl)
abbrev cX7_check : ByteArray := prog_15_method_10_code
def yX7_check : MethodName := ⟨RX7, "check", "(IZLGridTable$Token;)V"⟩
def dkwX7_check_1 : List UInt8 := [177]
abbrev dktX7_check_1 : List UInt8 := dkwX7_check_1 ++ []
def dkwX7_check_0 : List UInt8 := [42, 180, 0, 79, 153, 0, 20, 28, 154, 0, 16, 187, 0, 44, 89, 27, 45, 180, 0, 50, 183, 0, 51, 191]
abbrev dktX7_check_0 : List UInt8 := dkwX7_check_0 ++ dktX7_check_1
theorem dksX7_check_0 : cX7_check.data.toList.drop 0 = dktX7_check_0 := by decide +kernel
theorem dksX7_check_1 : cX7_check.data.toList.drop 24 = dktX7_check_1 := dk_seg dksX7_check_0 24 rfl rfl
theorem dX7_check_0 : decode cX7_check 0 = .ok (.aload_n 0, 1) := dk_42 (dk_at dksX7_check_0 0 rfl rfl)
theorem dX7_check_1 : decode cX7_check 1 = .ok (.getfield 79, 3) := dk_180 0 79 (dk_at dksX7_check_0 1 rfl rfl)
theorem dX7_check_4 : decode cX7_check 4 = .ok (.ifCond .eq 20, 3) := dk_153 0 20 (dk_at dksX7_check_0 4 rfl rfl)
theorem dX7_check_7 : decode cX7_check 7 = .ok (.iload_n 2, 1) := dk_28 (dk_at dksX7_check_0 7 rfl rfl)
theorem dX7_check_8 : decode cX7_check 8 = .ok (.ifCond .ne 16, 3) := dk_154 0 16 (dk_at dksX7_check_0 8 rfl rfl)
theorem dX7_check_11 : decode cX7_check 11 = .ok (.new 44, 3) := dk_187 0 44 (dk_at dksX7_check_0 11 rfl rfl)
theorem dX7_check_14 : decode cX7_check 14 = .ok (.dup, 1) := dk_89 (dk_at dksX7_check_0 14 rfl rfl)
theorem dX7_check_15 : decode cX7_check 15 = .ok (.iload_n 1, 1) := dk_27 (dk_at dksX7_check_0 15 rfl rfl)
theorem dX7_check_16 : decode cX7_check 16 = .ok (.aload_n 3, 1) := dk_45 (dk_at dksX7_check_0 16 rfl rfl)
theorem dX7_check_17 : decode cX7_check 17 = .ok (.getfield 50, 3) := dk_180 0 50 (dk_at dksX7_check_0 17 rfl rfl)
theorem dX7_check_20 : decode cX7_check 20 = .ok (.invokespecial 51, 3) := dk_183 0 51 (dk_at dksX7_check_0 20 rfl rfl)
theorem dX7_check_23 : decode cX7_check 23 = .ok (.athrow, 1) := dk_191 (dk_at dksX7_check_0 23 rfl rfl)
theorem dX7_check_24 : decode cX7_check 24 = .ok (.return_, 1) := dk_177 (dk_at dksX7_check_1 0 rfl rfl)
abbrev cX7_take_2 : ByteArray := prog_15_method_5_code
def yX7_take_2 : MethodName := ⟨RX7, "take", "(Ljava/lang/String;)V"⟩
def dkwX7_take_2_0 : List UInt8 := [42, 43, 182, 0, 58, 154, 0, 8, 42, 182, 0, 61, 191, 177]
abbrev dktX7_take_2_0 : List UInt8 := dkwX7_take_2_0 ++ []
theorem dksX7_take_2_0 : cX7_take_2.data.toList.drop 0 = dktX7_take_2_0 := by decide +kernel
theorem dX7_take_2_0 : decode cX7_take_2 0 = .ok (.aload_n 0, 1) := dk_42 (dk_at dksX7_take_2_0 0 rfl rfl)
theorem dX7_take_2_1 : decode cX7_take_2 1 = .ok (.aload_n 1, 1) := dk_43 (dk_at dksX7_take_2_0 1 rfl rfl)
theorem dX7_take_2_2 : decode cX7_take_2 2 = .ok (.invokevirtual 58, 3) := dk_182 0 58 (dk_at dksX7_take_2_0 2 rfl rfl)
theorem dX7_take_2_5 : decode cX7_take_2 5 = .ok (.ifCond .ne 8, 3) := dk_154 0 8 (dk_at dksX7_take_2_0 5 rfl rfl)
theorem dX7_take_2_8 : decode cX7_take_2 8 = .ok (.aload_n 0, 1) := dk_42 (dk_at dksX7_take_2_0 8 rfl rfl)
theorem dX7_take_2_9 : decode cX7_take_2 9 = .ok (.invokevirtual 61, 3) := dk_182 0 61 (dk_at dksX7_take_2_0 9 rfl rfl)
theorem dX7_take_2_12 : decode cX7_take_2 12 = .ok (.athrow, 1) := dk_191 (dk_at dksX7_take_2_0 12 rfl rfl)
theorem dX7_take_2_13 : decode cX7_take_2 13 = .ok (.return_, 1) := dk_177 (dk_at dksX7_take_2_0 13 rfl rfl)
abbrev cX7_sum : ByteArray := prog_15_method_23_code
def yX7_sum : MethodName := ⟨RX7, "sum", "()LGridTable$Sum;"⟩
def dkwX7_sum_3 : List UInt8 := [89, 44, 43, 42, 182, 1, 65, 183, 1, 83, 76, 167, 255, 182, 43, 176]
abbrev dktX7_sum_3 : List UInt8 := dkwX7_sum_3 ++ []
def dkwX7_sum_2 : List UInt8 := [167, 0, 6, 178, 1, 78, 77, 44, 178, 1, 78, 166, 0, 10, 42, 19, 1, 70, 182, 0, 72, 187, 1, 81]
abbrev dktX7_sum_2 : List UInt8 := dkwX7_sum_2 ++ dktX7_sum_3
def dkwX7_sum_1 : List UInt8 := [19, 1, 70, 182, 0, 54, 153, 0, 54, 42, 19, 1, 68, 182, 0, 58, 153, 0, 9, 178, 1, 72]
abbrev dktX7_sum_1 : List UInt8 := dkwX7_sum_1 ++ dktX7_sum_2
def dkwX7_sum_0 : List UInt8 := [42, 182, 1, 65, 76, 42, 182, 0, 46, 19, 1, 68, 182, 0, 54, 154, 0, 16, 42, 182, 0, 46]
abbrev dktX7_sum_0 : List UInt8 := dkwX7_sum_0 ++ dktX7_sum_1
theorem dksX7_sum_0 : cX7_sum.data.toList.drop 0 = dktX7_sum_0 := by decide +kernel
theorem dksX7_sum_1 : cX7_sum.data.toList.drop 22 = dktX7_sum_1 := dk_seg dksX7_sum_0 22 rfl rfl
theorem dksX7_sum_2 : cX7_sum.data.toList.drop 44 = dktX7_sum_2 := dk_seg dksX7_sum_1 22 rfl rfl
theorem dksX7_sum_3 : cX7_sum.data.toList.drop 68 = dktX7_sum_3 := dk_seg dksX7_sum_2 24 rfl rfl
theorem dX7_sum_0 : decode cX7_sum 0 = .ok (.aload_n 0, 1) := dk_42 (dk_at dksX7_sum_0 0 rfl rfl)
theorem dX7_sum_1 : decode cX7_sum 1 = .ok (.invokevirtual 321, 3) := dk_182 1 65 (dk_at dksX7_sum_0 1 rfl rfl)
theorem dX7_sum_4 : decode cX7_sum 4 = .ok (.astore_n 1, 1) := dk_76 (dk_at dksX7_sum_0 4 rfl rfl)
theorem dX7_sum_5 : decode cX7_sum 5 = .ok (.aload_n 0, 1) := dk_42 (dk_at dksX7_sum_0 5 rfl rfl)
theorem dX7_sum_6 : decode cX7_sum 6 = .ok (.invokevirtual 46, 3) := dk_182 0 46 (dk_at dksX7_sum_0 6 rfl rfl)
theorem dX7_sum_9 : decode cX7_sum 9 = .ok (.ldc_w 324, 3) := dk_19 1 68 (dk_at dksX7_sum_0 9 rfl rfl)
theorem dX7_sum_12 : decode cX7_sum 12 = .ok (.invokevirtual 54, 3) := dk_182 0 54 (dk_at dksX7_sum_0 12 rfl rfl)
theorem dX7_sum_15 : decode cX7_sum 15 = .ok (.ifCond .ne 16, 3) := dk_154 0 16 (dk_at dksX7_sum_0 15 rfl rfl)
theorem dX7_sum_18 : decode cX7_sum 18 = .ok (.aload_n 0, 1) := dk_42 (dk_at dksX7_sum_0 18 rfl rfl)
theorem dX7_sum_19 : decode cX7_sum 19 = .ok (.invokevirtual 46, 3) := dk_182 0 46 (dk_at dksX7_sum_0 19 rfl rfl)
theorem dX7_sum_22 : decode cX7_sum 22 = .ok (.ldc_w 326, 3) := dk_19 1 70 (dk_at dksX7_sum_1 0 rfl rfl)
theorem dX7_sum_25 : decode cX7_sum 25 = .ok (.invokevirtual 54, 3) := dk_182 0 54 (dk_at dksX7_sum_1 3 rfl rfl)
theorem dX7_sum_28 : decode cX7_sum 28 = .ok (.ifCond .eq 54, 3) := dk_153 0 54 (dk_at dksX7_sum_1 6 rfl rfl)
theorem dX7_sum_31 : decode cX7_sum 31 = .ok (.aload_n 0, 1) := dk_42 (dk_at dksX7_sum_1 9 rfl rfl)
theorem dX7_sum_32 : decode cX7_sum 32 = .ok (.ldc_w 324, 3) := dk_19 1 68 (dk_at dksX7_sum_1 10 rfl rfl)
theorem dX7_sum_35 : decode cX7_sum 35 = .ok (.invokevirtual 58, 3) := dk_182 0 58 (dk_at dksX7_sum_1 13 rfl rfl)
theorem dX7_sum_38 : decode cX7_sum 38 = .ok (.ifCond .eq 9, 3) := dk_153 0 9 (dk_at dksX7_sum_1 16 rfl rfl)
theorem dX7_sum_41 : decode cX7_sum 41 = .ok (.getstatic 328, 3) := dk_178 1 72 (dk_at dksX7_sum_1 19 rfl rfl)
theorem dX7_sum_44 : decode cX7_sum 44 = .ok (.goto 6, 3) := dk_167 0 6 (dk_at dksX7_sum_2 0 rfl rfl)
theorem dX7_sum_47 : decode cX7_sum 47 = .ok (.getstatic 334, 3) := dk_178 1 78 (dk_at dksX7_sum_2 3 rfl rfl)
theorem dX7_sum_50 : decode cX7_sum 50 = .ok (.astore_n 2, 1) := dk_77 (dk_at dksX7_sum_2 6 rfl rfl)
theorem dX7_sum_51 : decode cX7_sum 51 = .ok (.aload_n 2, 1) := dk_44 (dk_at dksX7_sum_2 7 rfl rfl)
theorem dX7_sum_52 : decode cX7_sum 52 = .ok (.getstatic 334, 3) := dk_178 1 78 (dk_at dksX7_sum_2 8 rfl rfl)
theorem dX7_sum_55 : decode cX7_sum 55 = .ok (.if_acmp .ne 10, 3) := dk_166 0 10 (dk_at dksX7_sum_2 11 rfl rfl)
theorem dX7_sum_58 : decode cX7_sum 58 = .ok (.aload_n 0, 1) := dk_42 (dk_at dksX7_sum_2 14 rfl rfl)
theorem dX7_sum_59 : decode cX7_sum 59 = .ok (.ldc_w 326, 3) := dk_19 1 70 (dk_at dksX7_sum_2 15 rfl rfl)
theorem dX7_sum_62 : decode cX7_sum 62 = .ok (.invokevirtual 72, 3) := dk_182 0 72 (dk_at dksX7_sum_2 18 rfl rfl)
theorem dX7_sum_65 : decode cX7_sum 65 = .ok (.new 337, 3) := dk_187 1 81 (dk_at dksX7_sum_2 21 rfl rfl)
theorem dX7_sum_68 : decode cX7_sum 68 = .ok (.dup, 1) := dk_89 (dk_at dksX7_sum_3 0 rfl rfl)
theorem dX7_sum_69 : decode cX7_sum 69 = .ok (.aload_n 2, 1) := dk_44 (dk_at dksX7_sum_3 1 rfl rfl)
theorem dX7_sum_70 : decode cX7_sum 70 = .ok (.aload_n 1, 1) := dk_43 (dk_at dksX7_sum_3 2 rfl rfl)
theorem dX7_sum_71 : decode cX7_sum 71 = .ok (.aload_n 0, 1) := dk_42 (dk_at dksX7_sum_3 3 rfl rfl)
theorem dX7_sum_72 : decode cX7_sum 72 = .ok (.invokevirtual 321, 3) := dk_182 1 65 (dk_at dksX7_sum_3 4 rfl rfl)
theorem dX7_sum_75 : decode cX7_sum 75 = .ok (.invokespecial 339, 3) := dk_183 1 83 (dk_at dksX7_sum_3 7 rfl rfl)
theorem dX7_sum_78 : decode cX7_sum 78 = .ok (.astore_n 1, 1) := dk_76 (dk_at dksX7_sum_3 10 rfl rfl)
theorem dX7_sum_79 : decode cX7_sum 79 = .ok (.goto (-74), 3) := dk_167 255 182 (dk_at dksX7_sum_3 11 rfl rfl)
theorem dX7_sum_82 : decode cX7_sum 82 = .ok (.aload_n 1, 1) := dk_43 (dk_at dksX7_sum_3 14 rfl rfl)
theorem dX7_sum_83 : decode cX7_sum 83 = .ok (.areturn, 1) := dk_176 (dk_at dksX7_sum_3 15 rfl rfl)
abbrev cX7_product : ByteArray := prog_15_method_24_code
def yX7_product : MethodName := ⟨RX7, "product", "()LGridTable$Sum;"⟩
def dkwX7_product_3 : List UInt8 := [89, 44, 43, 42, 182, 1, 86, 183, 1, 83, 76, 167, 255, 182, 43, 176]
abbrev dktX7_product_3 : List UInt8 := dkwX7_product_3 ++ []
def dkwX7_product_2 : List UInt8 := [167, 0, 6, 178, 1, 96, 77, 44, 178, 1, 96, 166, 0, 10, 42, 19, 1, 91, 182, 0, 72, 187, 1, 81]
abbrev dktX7_product_2 : List UInt8 := dkwX7_product_2 ++ dktX7_product_3
def dkwX7_product_1 : List UInt8 := [19, 1, 91, 182, 0, 54, 153, 0, 54, 42, 19, 1, 89, 182, 0, 58, 153, 0, 9, 178, 1, 93]
abbrev dktX7_product_1 : List UInt8 := dkwX7_product_1 ++ dktX7_product_2
def dkwX7_product_0 : List UInt8 := [42, 182, 1, 86, 76, 42, 182, 0, 46, 19, 1, 89, 182, 0, 54, 154, 0, 16, 42, 182, 0, 46]
abbrev dktX7_product_0 : List UInt8 := dkwX7_product_0 ++ dktX7_product_1
theorem dksX7_product_0 : cX7_product.data.toList.drop 0 = dktX7_product_0 := by decide +kernel
theorem dksX7_product_1 : cX7_product.data.toList.drop 22 = dktX7_product_1 := dk_seg dksX7_product_0 22 rfl rfl
theorem dksX7_product_2 : cX7_product.data.toList.drop 44 = dktX7_product_2 := dk_seg dksX7_product_1 22 rfl rfl
theorem dksX7_product_3 : cX7_product.data.toList.drop 68 = dktX7_product_3 := dk_seg dksX7_product_2 24 rfl rfl
theorem dX7_product_0 : decode cX7_product 0 = .ok (.aload_n 0, 1) := dk_42 (dk_at dksX7_product_0 0 rfl rfl)
theorem dX7_product_1 : decode cX7_product 1 = .ok (.invokevirtual 342, 3) := dk_182 1 86 (dk_at dksX7_product_0 1 rfl rfl)
theorem dX7_product_4 : decode cX7_product 4 = .ok (.astore_n 1, 1) := dk_76 (dk_at dksX7_product_0 4 rfl rfl)
theorem dX7_product_5 : decode cX7_product 5 = .ok (.aload_n 0, 1) := dk_42 (dk_at dksX7_product_0 5 rfl rfl)
theorem dX7_product_6 : decode cX7_product 6 = .ok (.invokevirtual 46, 3) := dk_182 0 46 (dk_at dksX7_product_0 6 rfl rfl)
theorem dX7_product_9 : decode cX7_product 9 = .ok (.ldc_w 345, 3) := dk_19 1 89 (dk_at dksX7_product_0 9 rfl rfl)
theorem dX7_product_12 : decode cX7_product 12 = .ok (.invokevirtual 54, 3) := dk_182 0 54 (dk_at dksX7_product_0 12 rfl rfl)
theorem dX7_product_15 : decode cX7_product 15 = .ok (.ifCond .ne 16, 3) := dk_154 0 16 (dk_at dksX7_product_0 15 rfl rfl)
theorem dX7_product_18 : decode cX7_product 18 = .ok (.aload_n 0, 1) := dk_42 (dk_at dksX7_product_0 18 rfl rfl)
theorem dX7_product_19 : decode cX7_product 19 = .ok (.invokevirtual 46, 3) := dk_182 0 46 (dk_at dksX7_product_0 19 rfl rfl)
theorem dX7_product_22 : decode cX7_product 22 = .ok (.ldc_w 347, 3) := dk_19 1 91 (dk_at dksX7_product_1 0 rfl rfl)
theorem dX7_product_25 : decode cX7_product 25 = .ok (.invokevirtual 54, 3) := dk_182 0 54 (dk_at dksX7_product_1 3 rfl rfl)
theorem dX7_product_28 : decode cX7_product 28 = .ok (.ifCond .eq 54, 3) := dk_153 0 54 (dk_at dksX7_product_1 6 rfl rfl)
theorem dX7_product_31 : decode cX7_product 31 = .ok (.aload_n 0, 1) := dk_42 (dk_at dksX7_product_1 9 rfl rfl)
theorem dX7_product_32 : decode cX7_product 32 = .ok (.ldc_w 345, 3) := dk_19 1 89 (dk_at dksX7_product_1 10 rfl rfl)
theorem dX7_product_35 : decode cX7_product 35 = .ok (.invokevirtual 58, 3) := dk_182 0 58 (dk_at dksX7_product_1 13 rfl rfl)
theorem dX7_product_38 : decode cX7_product 38 = .ok (.ifCond .eq 9, 3) := dk_153 0 9 (dk_at dksX7_product_1 16 rfl rfl)
theorem dX7_product_41 : decode cX7_product 41 = .ok (.getstatic 349, 3) := dk_178 1 93 (dk_at dksX7_product_1 19 rfl rfl)
theorem dX7_product_44 : decode cX7_product 44 = .ok (.goto 6, 3) := dk_167 0 6 (dk_at dksX7_product_2 0 rfl rfl)
theorem dX7_product_47 : decode cX7_product 47 = .ok (.getstatic 352, 3) := dk_178 1 96 (dk_at dksX7_product_2 3 rfl rfl)
theorem dX7_product_50 : decode cX7_product 50 = .ok (.astore_n 2, 1) := dk_77 (dk_at dksX7_product_2 6 rfl rfl)
theorem dX7_product_51 : decode cX7_product 51 = .ok (.aload_n 2, 1) := dk_44 (dk_at dksX7_product_2 7 rfl rfl)
theorem dX7_product_52 : decode cX7_product 52 = .ok (.getstatic 352, 3) := dk_178 1 96 (dk_at dksX7_product_2 8 rfl rfl)
theorem dX7_product_55 : decode cX7_product 55 = .ok (.if_acmp .ne 10, 3) := dk_166 0 10 (dk_at dksX7_product_2 11 rfl rfl)
theorem dX7_product_58 : decode cX7_product 58 = .ok (.aload_n 0, 1) := dk_42 (dk_at dksX7_product_2 14 rfl rfl)
theorem dX7_product_59 : decode cX7_product 59 = .ok (.ldc_w 347, 3) := dk_19 1 91 (dk_at dksX7_product_2 15 rfl rfl)
theorem dX7_product_62 : decode cX7_product 62 = .ok (.invokevirtual 72, 3) := dk_182 0 72 (dk_at dksX7_product_2 18 rfl rfl)
theorem dX7_product_65 : decode cX7_product 65 = .ok (.new 337, 3) := dk_187 1 81 (dk_at dksX7_product_2 21 rfl rfl)
theorem dX7_product_68 : decode cX7_product 68 = .ok (.dup, 1) := dk_89 (dk_at dksX7_product_3 0 rfl rfl)
theorem dX7_product_69 : decode cX7_product 69 = .ok (.aload_n 2, 1) := dk_44 (dk_at dksX7_product_3 1 rfl rfl)
theorem dX7_product_70 : decode cX7_product 70 = .ok (.aload_n 1, 1) := dk_43 (dk_at dksX7_product_3 2 rfl rfl)
theorem dX7_product_71 : decode cX7_product 71 = .ok (.aload_n 0, 1) := dk_42 (dk_at dksX7_product_3 3 rfl rfl)
theorem dX7_product_72 : decode cX7_product 72 = .ok (.invokevirtual 342, 3) := dk_182 1 86 (dk_at dksX7_product_3 4 rfl rfl)
theorem dX7_product_75 : decode cX7_product 75 = .ok (.invokespecial 339, 3) := dk_183 1 83 (dk_at dksX7_product_3 7 rfl rfl)
theorem dX7_product_78 : decode cX7_product 78 = .ok (.astore_n 1, 1) := dk_76 (dk_at dksX7_product_3 10 rfl rfl)
theorem dX7_product_79 : decode cX7_product 79 = .ok (.goto (-74), 3) := dk_167 255 182 (dk_at dksX7_product_3 11 rfl rfl)
theorem dX7_product_82 : decode cX7_product 82 = .ok (.aload_n 1, 1) := dk_43 (dk_at dksX7_product_3 14 rfl rfl)
theorem dX7_product_83 : decode cX7_product 83 = .ok (.areturn, 1) := dk_176 (dk_at dksX7_product_3 15 rfl rfl)
abbrev cX7_value : ByteArray := prog_15_method_26_code
def yX7_value : MethodName := ⟨RX7, "value", "()LGridTable$Sum;"⟩
def dkwX7_value_10 : List UInt8 := [89, 43, 44, 42, 182, 0, 160, 183, 1, 83, 77, 42, 19, 1, 153, 182, 1, 37, 44, 176]
abbrev dktX7_value_10 : List UInt8 := dkwX7_value_10 ++ []
def dkwX7_value_9 : List UInt8 := [19, 1, 151, 182, 1, 25, 42, 182, 0, 160, 77, 43, 198, 0, 23, 42, 18, 164, 182, 0, 72, 187, 1, 81]
abbrev dktX7_value_9 : List UInt8 := dkwX7_value_9 ++ dktX7_value_10
def dkwX7_value_8 : List UInt8 := [42, 178, 1, 148, 180, 1, 147, 182, 0, 58, 153, 0, 9, 178, 1, 148, 167, 0, 4, 1, 76, 42]
abbrev dktX7_value_8 : List UInt8 := dkwX7_value_8 ++ dktX7_value_9
def dkwX7_value_7 : List UInt8 := [181, 0, 69, 43, 176, 42, 178, 1, 144, 180, 1, 147, 182, 0, 58, 153, 0, 9, 178, 1, 144, 167, 0, 23]
abbrev dktX7_value_7 : List UInt8 := dkwX7_value_7 ++ dktX7_value_8
def dkwX7_value_6 : List UInt8 := [182, 1, 25, 187, 1, 139, 89, 42, 182, 1, 86, 183, 1, 141, 76, 42, 89, 180, 0, 69, 4, 100]
abbrev dktX7_value_6 : List UInt8 := dkwX7_value_6 ++ dktX7_value_7
def dkwX7_value_5 : List UInt8 := [176, 132, 3, 1, 167, 255, 212, 42, 182, 0, 46, 19, 1, 70, 182, 0, 54, 153, 0, 34, 42, 19, 1, 70]
abbrev dktX7_value_5 : List UInt8 := dkwX7_value_5 ++ dktX7_value_6
def dkwX7_value_4 : List UInt8 := [182, 0, 58, 153, 0, 22, 187, 1, 127, 89, 25, 4, 42, 25, 4, 180, 1, 129, 182, 1, 132, 183, 1, 136]
abbrev dktX7_value_4 : List UInt8 := dkwX7_value_4 ++ dktX7_value_5
def dkwX7_value_3 : List UInt8 := [76, 43, 190, 61, 3, 62, 29, 28, 162, 0, 45, 43, 29, 50, 58, 4, 42, 25, 4, 180, 1, 124]
abbrev dktX7_value_3 : List UInt8 := dkwX7_value_3 ++ dktX7_value_4
def dkwX7_value_2 : List UInt8 := [182, 0, 205, 60, 187, 1, 115, 89, 27, 42, 42, 180, 0, 25, 182, 0, 205, 183, 1, 117, 176, 178, 1, 118]
abbrev dktX7_value_2 : List UInt8 := dkwX7_value_2 ++ dktX7_value_3
def dkwX7_value_1 : List UInt8 := [182, 0, 135, 183, 1, 110, 176, 42, 19, 1, 113, 182, 0, 58, 153, 0, 29, 42, 42, 180, 0, 25]
abbrev dktX7_value_1 : List UInt8 := dkwX7_value_1 ++ dktX7_value_2
def dkwX7_value_0 : List UInt8 := [42, 182, 0, 46, 180, 0, 65, 178, 0, 132, 166, 0, 21, 187, 1, 108, 89, 42, 178, 0, 132, 182, 0, 88]
abbrev dktX7_value_0 : List UInt8 := dkwX7_value_0 ++ dktX7_value_1
theorem dksX7_value_0 : cX7_value.data.toList.drop 0 = dktX7_value_0 := by decide +kernel
theorem dksX7_value_1 : cX7_value.data.toList.drop 24 = dktX7_value_1 := dk_seg dksX7_value_0 24 rfl rfl
theorem dksX7_value_2 : cX7_value.data.toList.drop 46 = dktX7_value_2 := dk_seg dksX7_value_1 22 rfl rfl
theorem dksX7_value_3 : cX7_value.data.toList.drop 70 = dktX7_value_3 := dk_seg dksX7_value_2 24 rfl rfl
theorem dksX7_value_4 : cX7_value.data.toList.drop 92 = dktX7_value_4 := dk_seg dksX7_value_3 22 rfl rfl
theorem dksX7_value_5 : cX7_value.data.toList.drop 116 = dktX7_value_5 := dk_seg dksX7_value_4 24 rfl rfl
theorem dksX7_value_6 : cX7_value.data.toList.drop 140 = dktX7_value_6 := dk_seg dksX7_value_5 24 rfl rfl
theorem dksX7_value_7 : cX7_value.data.toList.drop 162 = dktX7_value_7 := dk_seg dksX7_value_6 22 rfl rfl
theorem dksX7_value_8 : cX7_value.data.toList.drop 186 = dktX7_value_8 := dk_seg dksX7_value_7 24 rfl rfl
theorem dksX7_value_9 : cX7_value.data.toList.drop 208 = dktX7_value_9 := dk_seg dksX7_value_8 22 rfl rfl
theorem dksX7_value_10 : cX7_value.data.toList.drop 232 = dktX7_value_10 := dk_seg dksX7_value_9 24 rfl rfl
theorem dX7_value_0 : decode cX7_value 0 = .ok (.aload_n 0, 1) := dk_42 (dk_at dksX7_value_0 0 rfl rfl)
theorem dX7_value_1 : decode cX7_value 1 = .ok (.invokevirtual 46, 3) := dk_182 0 46 (dk_at dksX7_value_0 1 rfl rfl)
theorem dX7_value_4 : decode cX7_value 4 = .ok (.getfield 65, 3) := dk_180 0 65 (dk_at dksX7_value_0 4 rfl rfl)
theorem dX7_value_7 : decode cX7_value 7 = .ok (.getstatic 132, 3) := dk_178 0 132 (dk_at dksX7_value_0 7 rfl rfl)
theorem dX7_value_10 : decode cX7_value 10 = .ok (.if_acmp .ne 21, 3) := dk_166 0 21 (dk_at dksX7_value_0 10 rfl rfl)
theorem dX7_value_13 : decode cX7_value 13 = .ok (.new 364, 3) := dk_187 1 108 (dk_at dksX7_value_0 13 rfl rfl)
theorem dX7_value_16 : decode cX7_value 16 = .ok (.dup, 1) := dk_89 (dk_at dksX7_value_0 16 rfl rfl)
theorem dX7_value_17 : decode cX7_value 17 = .ok (.aload_n 0, 1) := dk_42 (dk_at dksX7_value_0 17 rfl rfl)
theorem dX7_value_18 : decode cX7_value 18 = .ok (.getstatic 132, 3) := dk_178 0 132 (dk_at dksX7_value_0 18 rfl rfl)
theorem dX7_value_21 : decode cX7_value 21 = .ok (.invokevirtual 88, 3) := dk_182 0 88 (dk_at dksX7_value_0 21 rfl rfl)
theorem dX7_value_24 : decode cX7_value 24 = .ok (.invokevirtual 135, 3) := dk_182 0 135 (dk_at dksX7_value_1 0 rfl rfl)
theorem dX7_value_27 : decode cX7_value 27 = .ok (.invokespecial 366, 3) := dk_183 1 110 (dk_at dksX7_value_1 3 rfl rfl)
theorem dX7_value_30 : decode cX7_value 30 = .ok (.areturn, 1) := dk_176 (dk_at dksX7_value_1 6 rfl rfl)
theorem dX7_value_31 : decode cX7_value 31 = .ok (.aload_n 0, 1) := dk_42 (dk_at dksX7_value_1 7 rfl rfl)
theorem dX7_value_32 : decode cX7_value 32 = .ok (.ldc_w 369, 3) := dk_19 1 113 (dk_at dksX7_value_1 8 rfl rfl)
theorem dX7_value_35 : decode cX7_value 35 = .ok (.invokevirtual 58, 3) := dk_182 0 58 (dk_at dksX7_value_1 11 rfl rfl)
theorem dX7_value_38 : decode cX7_value 38 = .ok (.ifCond .eq 29, 3) := dk_153 0 29 (dk_at dksX7_value_1 14 rfl rfl)
theorem dX7_value_41 : decode cX7_value 41 = .ok (.aload_n 0, 1) := dk_42 (dk_at dksX7_value_1 17 rfl rfl)
theorem dX7_value_42 : decode cX7_value 42 = .ok (.aload_n 0, 1) := dk_42 (dk_at dksX7_value_1 18 rfl rfl)
theorem dX7_value_43 : decode cX7_value 43 = .ok (.getfield 25, 3) := dk_180 0 25 (dk_at dksX7_value_1 19 rfl rfl)
theorem dX7_value_46 : decode cX7_value 46 = .ok (.invokevirtual 205, 3) := dk_182 0 205 (dk_at dksX7_value_2 0 rfl rfl)
theorem dX7_value_49 : decode cX7_value 49 = .ok (.istore_n 1, 1) := dk_60 (dk_at dksX7_value_2 3 rfl rfl)
theorem dX7_value_50 : decode cX7_value 50 = .ok (.new 371, 3) := dk_187 1 115 (dk_at dksX7_value_2 4 rfl rfl)
theorem dX7_value_53 : decode cX7_value 53 = .ok (.dup, 1) := dk_89 (dk_at dksX7_value_2 7 rfl rfl)
theorem dX7_value_54 : decode cX7_value 54 = .ok (.iload_n 1, 1) := dk_27 (dk_at dksX7_value_2 8 rfl rfl)
theorem dX7_value_55 : decode cX7_value 55 = .ok (.aload_n 0, 1) := dk_42 (dk_at dksX7_value_2 9 rfl rfl)
theorem dX7_value_56 : decode cX7_value 56 = .ok (.aload_n 0, 1) := dk_42 (dk_at dksX7_value_2 10 rfl rfl)
theorem dX7_value_57 : decode cX7_value 57 = .ok (.getfield 25, 3) := dk_180 0 25 (dk_at dksX7_value_2 11 rfl rfl)
theorem dX7_value_60 : decode cX7_value 60 = .ok (.invokevirtual 205, 3) := dk_182 0 205 (dk_at dksX7_value_2 14 rfl rfl)
theorem dX7_value_63 : decode cX7_value 63 = .ok (.invokespecial 373, 3) := dk_183 1 117 (dk_at dksX7_value_2 17 rfl rfl)
theorem dX7_value_66 : decode cX7_value 66 = .ok (.areturn, 1) := dk_176 (dk_at dksX7_value_2 20 rfl rfl)
theorem dX7_value_67 : decode cX7_value 67 = .ok (.getstatic 374, 3) := dk_178 1 118 (dk_at dksX7_value_2 21 rfl rfl)
theorem dX7_value_70 : decode cX7_value 70 = .ok (.astore_n 1, 1) := dk_76 (dk_at dksX7_value_3 0 rfl rfl)
theorem dX7_value_71 : decode cX7_value 71 = .ok (.aload_n 1, 1) := dk_43 (dk_at dksX7_value_3 1 rfl rfl)
theorem dX7_value_72 : decode cX7_value 72 = .ok (.arraylength, 1) := dk_190 (dk_at dksX7_value_3 2 rfl rfl)
theorem dX7_value_73 : decode cX7_value 73 = .ok (.istore_n 2, 1) := dk_61 (dk_at dksX7_value_3 3 rfl rfl)
theorem dX7_value_74 : decode cX7_value 74 = .ok (.iconst 0, 1) := dk_3 (dk_at dksX7_value_3 4 rfl rfl)
theorem dX7_value_75 : decode cX7_value 75 = .ok (.istore_n 3, 1) := dk_62 (dk_at dksX7_value_3 5 rfl rfl)
theorem dX7_value_76 : decode cX7_value 76 = .ok (.iload_n 3, 1) := dk_29 (dk_at dksX7_value_3 6 rfl rfl)
theorem dX7_value_77 : decode cX7_value 77 = .ok (.iload_n 2, 1) := dk_28 (dk_at dksX7_value_3 7 rfl rfl)
theorem dX7_value_78 : decode cX7_value 78 = .ok (.if_icmp .ge 45, 3) := dk_162 0 45 (dk_at dksX7_value_3 8 rfl rfl)
theorem dX7_value_81 : decode cX7_value 81 = .ok (.aload_n 1, 1) := dk_43 (dk_at dksX7_value_3 11 rfl rfl)
theorem dX7_value_82 : decode cX7_value 82 = .ok (.iload_n 3, 1) := dk_29 (dk_at dksX7_value_3 12 rfl rfl)
theorem dX7_value_83 : decode cX7_value 83 = .ok (.aaload, 1) := dk_50 (dk_at dksX7_value_3 13 rfl rfl)
theorem dX7_value_84 : decode cX7_value 84 = .ok (.astore 4, 2) := dk_58 4 (dk_at dksX7_value_3 14 rfl rfl)
theorem dX7_value_86 : decode cX7_value 86 = .ok (.aload_n 0, 1) := dk_42 (dk_at dksX7_value_3 16 rfl rfl)
theorem dX7_value_87 : decode cX7_value 87 = .ok (.aload 4, 2) := dk_25 4 (dk_at dksX7_value_3 17 rfl rfl)
theorem dX7_value_89 : decode cX7_value 89 = .ok (.getfield 380, 3) := dk_180 1 124 (dk_at dksX7_value_3 19 rfl rfl)
theorem dX7_value_92 : decode cX7_value 92 = .ok (.invokevirtual 58, 3) := dk_182 0 58 (dk_at dksX7_value_4 0 rfl rfl)
theorem dX7_value_95 : decode cX7_value 95 = .ok (.ifCond .eq 22, 3) := dk_153 0 22 (dk_at dksX7_value_4 3 rfl rfl)
theorem dX7_value_98 : decode cX7_value 98 = .ok (.new 383, 3) := dk_187 1 127 (dk_at dksX7_value_4 6 rfl rfl)
theorem dX7_value_101 : decode cX7_value 101 = .ok (.dup, 1) := dk_89 (dk_at dksX7_value_4 9 rfl rfl)
theorem dX7_value_102 : decode cX7_value 102 = .ok (.aload 4, 2) := dk_25 4 (dk_at dksX7_value_4 10 rfl rfl)
theorem dX7_value_104 : decode cX7_value 104 = .ok (.aload_n 0, 1) := dk_42 (dk_at dksX7_value_4 12 rfl rfl)
theorem dX7_value_105 : decode cX7_value 105 = .ok (.aload 4, 2) := dk_25 4 (dk_at dksX7_value_4 13 rfl rfl)
theorem dX7_value_107 : decode cX7_value 107 = .ok (.getfield 385, 3) := dk_180 1 129 (dk_at dksX7_value_4 15 rfl rfl)
theorem dX7_value_110 : decode cX7_value 110 = .ok (.invokevirtual 388, 3) := dk_182 1 132 (dk_at dksX7_value_4 18 rfl rfl)
theorem dX7_value_113 : decode cX7_value 113 = .ok (.invokespecial 392, 3) := dk_183 1 136 (dk_at dksX7_value_4 21 rfl rfl)
theorem dX7_value_116 : decode cX7_value 116 = .ok (.areturn, 1) := dk_176 (dk_at dksX7_value_5 0 rfl rfl)
theorem dX7_value_117 : decode cX7_value 117 = .ok (.iinc 3 1, 3) := dk_132 3 1 (dk_at dksX7_value_5 1 rfl rfl)
theorem dX7_value_120 : decode cX7_value 120 = .ok (.goto (-44), 3) := dk_167 255 212 (dk_at dksX7_value_5 4 rfl rfl)
theorem dX7_value_123 : decode cX7_value 123 = .ok (.aload_n 0, 1) := dk_42 (dk_at dksX7_value_5 7 rfl rfl)
theorem dX7_value_124 : decode cX7_value 124 = .ok (.invokevirtual 46, 3) := dk_182 0 46 (dk_at dksX7_value_5 8 rfl rfl)
theorem dX7_value_127 : decode cX7_value 127 = .ok (.ldc_w 326, 3) := dk_19 1 70 (dk_at dksX7_value_5 11 rfl rfl)
theorem dX7_value_130 : decode cX7_value 130 = .ok (.invokevirtual 54, 3) := dk_182 0 54 (dk_at dksX7_value_5 14 rfl rfl)
theorem dX7_value_133 : decode cX7_value 133 = .ok (.ifCond .eq 34, 3) := dk_153 0 34 (dk_at dksX7_value_5 17 rfl rfl)
theorem dX7_value_136 : decode cX7_value 136 = .ok (.aload_n 0, 1) := dk_42 (dk_at dksX7_value_5 20 rfl rfl)
theorem dX7_value_137 : decode cX7_value 137 = .ok (.ldc_w 326, 3) := dk_19 1 70 (dk_at dksX7_value_5 21 rfl rfl)
theorem dX7_value_140 : decode cX7_value 140 = .ok (.invokevirtual 281, 3) := dk_182 1 25 (dk_at dksX7_value_6 0 rfl rfl)
theorem dX7_value_143 : decode cX7_value 143 = .ok (.new 395, 3) := dk_187 1 139 (dk_at dksX7_value_6 3 rfl rfl)
theorem dX7_value_146 : decode cX7_value 146 = .ok (.dup, 1) := dk_89 (dk_at dksX7_value_6 6 rfl rfl)
theorem dX7_value_147 : decode cX7_value 147 = .ok (.aload_n 0, 1) := dk_42 (dk_at dksX7_value_6 7 rfl rfl)
theorem dX7_value_148 : decode cX7_value 148 = .ok (.invokevirtual 342, 3) := dk_182 1 86 (dk_at dksX7_value_6 8 rfl rfl)
theorem dX7_value_151 : decode cX7_value 151 = .ok (.invokespecial 397, 3) := dk_183 1 141 (dk_at dksX7_value_6 11 rfl rfl)
theorem dX7_value_154 : decode cX7_value 154 = .ok (.astore_n 1, 1) := dk_76 (dk_at dksX7_value_6 14 rfl rfl)
theorem dX7_value_155 : decode cX7_value 155 = .ok (.aload_n 0, 1) := dk_42 (dk_at dksX7_value_6 15 rfl rfl)
theorem dX7_value_156 : decode cX7_value 156 = .ok (.dup, 1) := dk_89 (dk_at dksX7_value_6 16 rfl rfl)
theorem dX7_value_157 : decode cX7_value 157 = .ok (.getfield 69, 3) := dk_180 0 69 (dk_at dksX7_value_6 17 rfl rfl)
theorem dX7_value_160 : decode cX7_value 160 = .ok (.iconst 1, 1) := dk_4 (dk_at dksX7_value_6 20 rfl rfl)
theorem dX7_value_161 : decode cX7_value 161 = .ok (.isub, 1) := dk_100 (dk_at dksX7_value_6 21 rfl rfl)
theorem dX7_value_162 : decode cX7_value 162 = .ok (.putfield 69, 3) := dk_181 0 69 (dk_at dksX7_value_7 0 rfl rfl)
theorem dX7_value_165 : decode cX7_value 165 = .ok (.aload_n 1, 1) := dk_43 (dk_at dksX7_value_7 3 rfl rfl)
theorem dX7_value_166 : decode cX7_value 166 = .ok (.areturn, 1) := dk_176 (dk_at dksX7_value_7 4 rfl rfl)
theorem dX7_value_167 : decode cX7_value 167 = .ok (.aload_n 0, 1) := dk_42 (dk_at dksX7_value_7 5 rfl rfl)
theorem dX7_value_168 : decode cX7_value 168 = .ok (.getstatic 400, 3) := dk_178 1 144 (dk_at dksX7_value_7 6 rfl rfl)
theorem dX7_value_171 : decode cX7_value 171 = .ok (.getfield 403, 3) := dk_180 1 147 (dk_at dksX7_value_7 9 rfl rfl)
theorem dX7_value_174 : decode cX7_value 174 = .ok (.invokevirtual 58, 3) := dk_182 0 58 (dk_at dksX7_value_7 12 rfl rfl)
theorem dX7_value_177 : decode cX7_value 177 = .ok (.ifCond .eq 9, 3) := dk_153 0 9 (dk_at dksX7_value_7 15 rfl rfl)
theorem dX7_value_180 : decode cX7_value 180 = .ok (.getstatic 400, 3) := dk_178 1 144 (dk_at dksX7_value_7 18 rfl rfl)
theorem dX7_value_183 : decode cX7_value 183 = .ok (.goto 23, 3) := dk_167 0 23 (dk_at dksX7_value_7 21 rfl rfl)
theorem dX7_value_186 : decode cX7_value 186 = .ok (.aload_n 0, 1) := dk_42 (dk_at dksX7_value_8 0 rfl rfl)
theorem dX7_value_187 : decode cX7_value 187 = .ok (.getstatic 404, 3) := dk_178 1 148 (dk_at dksX7_value_8 1 rfl rfl)
theorem dX7_value_190 : decode cX7_value 190 = .ok (.getfield 403, 3) := dk_180 1 147 (dk_at dksX7_value_8 4 rfl rfl)
theorem dX7_value_193 : decode cX7_value 193 = .ok (.invokevirtual 58, 3) := dk_182 0 58 (dk_at dksX7_value_8 7 rfl rfl)
theorem dX7_value_196 : decode cX7_value 196 = .ok (.ifCond .eq 9, 3) := dk_153 0 9 (dk_at dksX7_value_8 10 rfl rfl)
theorem dX7_value_199 : decode cX7_value 199 = .ok (.getstatic 404, 3) := dk_178 1 148 (dk_at dksX7_value_8 13 rfl rfl)
theorem dX7_value_202 : decode cX7_value 202 = .ok (.goto 4, 3) := dk_167 0 4 (dk_at dksX7_value_8 16 rfl rfl)
theorem dX7_value_205 : decode cX7_value 205 = .ok (.aconst_null, 1) := dk_1 (dk_at dksX7_value_8 19 rfl rfl)
theorem dX7_value_206 : decode cX7_value 206 = .ok (.astore_n 1, 1) := dk_76 (dk_at dksX7_value_8 20 rfl rfl)
theorem dX7_value_207 : decode cX7_value 207 = .ok (.aload_n 0, 1) := dk_42 (dk_at dksX7_value_8 21 rfl rfl)
theorem dX7_value_208 : decode cX7_value 208 = .ok (.ldc_w 407, 3) := dk_19 1 151 (dk_at dksX7_value_9 0 rfl rfl)
theorem dX7_value_211 : decode cX7_value 211 = .ok (.invokevirtual 281, 3) := dk_182 1 25 (dk_at dksX7_value_9 3 rfl rfl)
theorem dX7_value_214 : decode cX7_value 214 = .ok (.aload_n 0, 1) := dk_42 (dk_at dksX7_value_9 6 rfl rfl)
theorem dX7_value_215 : decode cX7_value 215 = .ok (.invokevirtual 160, 3) := dk_182 0 160 (dk_at dksX7_value_9 7 rfl rfl)
theorem dX7_value_218 : decode cX7_value 218 = .ok (.astore_n 2, 1) := dk_77 (dk_at dksX7_value_9 10 rfl rfl)
theorem dX7_value_219 : decode cX7_value 219 = .ok (.aload_n 1, 1) := dk_43 (dk_at dksX7_value_9 11 rfl rfl)
theorem dX7_value_220 : decode cX7_value 220 = .ok (.ifnull 23, 3) := dk_198 0 23 (dk_at dksX7_value_9 12 rfl rfl)
theorem dX7_value_223 : decode cX7_value 223 = .ok (.aload_n 0, 1) := dk_42 (dk_at dksX7_value_9 15 rfl rfl)
theorem dX7_value_224 : decode cX7_value 224 = .ok (.ldc 164, 2) := dk_18 164 (dk_at dksX7_value_9 16 rfl rfl)
theorem dX7_value_226 : decode cX7_value 226 = .ok (.invokevirtual 72, 3) := dk_182 0 72 (dk_at dksX7_value_9 18 rfl rfl)
theorem dX7_value_229 : decode cX7_value 229 = .ok (.new 337, 3) := dk_187 1 81 (dk_at dksX7_value_9 21 rfl rfl)
theorem dX7_value_232 : decode cX7_value 232 = .ok (.dup, 1) := dk_89 (dk_at dksX7_value_10 0 rfl rfl)
theorem dX7_value_233 : decode cX7_value 233 = .ok (.aload_n 1, 1) := dk_43 (dk_at dksX7_value_10 1 rfl rfl)
theorem dX7_value_234 : decode cX7_value 234 = .ok (.aload_n 2, 1) := dk_44 (dk_at dksX7_value_10 2 rfl rfl)
theorem dX7_value_235 : decode cX7_value 235 = .ok (.aload_n 0, 1) := dk_42 (dk_at dksX7_value_10 3 rfl rfl)
theorem dX7_value_236 : decode cX7_value 236 = .ok (.invokevirtual 160, 3) := dk_182 0 160 (dk_at dksX7_value_10 4 rfl rfl)
theorem dX7_value_239 : decode cX7_value 239 = .ok (.invokespecial 339, 3) := dk_183 1 83 (dk_at dksX7_value_10 7 rfl rfl)
theorem dX7_value_242 : decode cX7_value 242 = .ok (.astore_n 2, 1) := dk_77 (dk_at dksX7_value_10 10 rfl rfl)
theorem dX7_value_243 : decode cX7_value 243 = .ok (.aload_n 0, 1) := dk_42 (dk_at dksX7_value_10 11 rfl rfl)
theorem dX7_value_244 : decode cX7_value 244 = .ok (.ldc_w 409, 3) := dk_19 1 153 (dk_at dksX7_value_10 12 rfl rfl)
theorem dX7_value_247 : decode cX7_value 247 = .ok (.invokevirtual 293, 3) := dk_182 1 37 (dk_at dksX7_value_10 15 rfl rfl)
theorem dX7_value_250 : decode cX7_value 250 = .ok (.aload_n 2, 1) := dk_44 (dk_at dksX7_value_10 18 rfl rfl)
theorem dX7_value_251 : decode cX7_value 251 = .ok (.areturn, 1) := dk_176 (dk_at dksX7_value_10 19 rfl rfl)
abbrev cX7_known : ByteArray := prog_15_method_13_code
def yX7_known : MethodName := ⟨RX7, "known", "(Ljava/util/HashMap;)I"⟩
def dkwX7_known_2 : List UInt8 := [182, 0, 129, 172]
abbrev dktX7_known_2 : List UInt8 := dkwX7_known_2 ++ []
def dkwX7_known_1 : List UInt8 := [180, 0, 91, 182, 0, 117, 192, 0, 108, 184, 0, 120, 3, 184, 0, 107, 182, 0, 126, 192, 0, 108]
abbrev dktX7_known_1 : List UInt8 := dkwX7_known_1 ++ dktX7_known_2
def dkwX7_known_0 : List UInt8 := [42, 178, 0, 83, 182, 0, 88, 77, 42, 6, 43, 44, 180, 0, 91, 182, 0, 95, 44, 182, 0, 99, 43, 44]
abbrev dktX7_known_0 : List UInt8 := dkwX7_known_0 ++ dktX7_known_1
theorem dksX7_known_0 : cX7_known.data.toList.drop 0 = dktX7_known_0 := by decide +kernel
theorem dksX7_known_1 : cX7_known.data.toList.drop 24 = dktX7_known_1 := dk_seg dksX7_known_0 24 rfl rfl
theorem dksX7_known_2 : cX7_known.data.toList.drop 46 = dktX7_known_2 := dk_seg dksX7_known_1 22 rfl rfl
theorem dX7_known_0 : decode cX7_known 0 = .ok (.aload_n 0, 1) := dk_42 (dk_at dksX7_known_0 0 rfl rfl)
theorem dX7_known_1 : decode cX7_known 1 = .ok (.getstatic 83, 3) := dk_178 0 83 (dk_at dksX7_known_0 1 rfl rfl)
theorem dX7_known_4 : decode cX7_known 4 = .ok (.invokevirtual 88, 3) := dk_182 0 88 (dk_at dksX7_known_0 4 rfl rfl)
theorem dX7_known_7 : decode cX7_known 7 = .ok (.astore_n 2, 1) := dk_77 (dk_at dksX7_known_0 7 rfl rfl)
theorem dX7_known_8 : decode cX7_known 8 = .ok (.aload_n 0, 1) := dk_42 (dk_at dksX7_known_0 8 rfl rfl)
theorem dX7_known_9 : decode cX7_known 9 = .ok (.iconst 3, 1) := dk_6 (dk_at dksX7_known_0 9 rfl rfl)
theorem dX7_known_10 : decode cX7_known 10 = .ok (.aload_n 1, 1) := dk_43 (dk_at dksX7_known_0 10 rfl rfl)
theorem dX7_known_11 : decode cX7_known 11 = .ok (.aload_n 2, 1) := dk_44 (dk_at dksX7_known_0 11 rfl rfl)
theorem dX7_known_12 : decode cX7_known 12 = .ok (.getfield 91, 3) := dk_180 0 91 (dk_at dksX7_known_0 12 rfl rfl)
theorem dX7_known_15 : decode cX7_known 15 = .ok (.invokevirtual 95, 3) := dk_182 0 95 (dk_at dksX7_known_0 15 rfl rfl)
theorem dX7_known_18 : decode cX7_known 18 = .ok (.aload_n 2, 1) := dk_44 (dk_at dksX7_known_0 18 rfl rfl)
theorem dX7_known_19 : decode cX7_known 19 = .ok (.invokevirtual 99, 3) := dk_182 0 99 (dk_at dksX7_known_0 19 rfl rfl)
theorem dX7_known_22 : decode cX7_known 22 = .ok (.aload_n 1, 1) := dk_43 (dk_at dksX7_known_0 22 rfl rfl)
theorem dX7_known_23 : decode cX7_known 23 = .ok (.aload_n 2, 1) := dk_44 (dk_at dksX7_known_0 23 rfl rfl)
theorem dX7_known_24 : decode cX7_known 24 = .ok (.getfield 91, 3) := dk_180 0 91 (dk_at dksX7_known_1 0 rfl rfl)
theorem dX7_known_27 : decode cX7_known 27 = .ok (.invokevirtual 117, 3) := dk_182 0 117 (dk_at dksX7_known_1 3 rfl rfl)
theorem dX7_known_30 : decode cX7_known 30 = .ok (.checkcast 108, 3) := dk_192 0 108 (dk_at dksX7_known_1 6 rfl rfl)
theorem dX7_known_33 : decode cX7_known 33 = .ok (.invokestatic 120, 3) := dk_184 0 120 (dk_at dksX7_known_1 9 rfl rfl)
theorem dX7_known_36 : decode cX7_known 36 = .ok (.iconst 0, 1) := dk_3 (dk_at dksX7_known_1 12 rfl rfl)
theorem dX7_known_37 : decode cX7_known 37 = .ok (.invokestatic 107, 3) := dk_184 0 107 (dk_at dksX7_known_1 13 rfl rfl)
theorem dX7_known_40 : decode cX7_known 40 = .ok (.invokevirtual 126, 3) := dk_182 0 126 (dk_at dksX7_known_1 16 rfl rfl)
theorem dX7_known_43 : decode cX7_known 43 = .ok (.checkcast 108, 3) := dk_192 0 108 (dk_at dksX7_known_1 19 rfl rfl)
theorem dX7_known_46 : decode cX7_known 46 = .ok (.invokevirtual 129, 3) := dk_182 0 129 (dk_at dksX7_known_2 0 rfl rfl)
theorem dX7_known_49 : decode cX7_known 49 = .ok (.ireturn, 1) := dk_172 (dk_at dksX7_known_2 3 rfl rfl)
abbrev cX7_which : ByteArray := prog_15_method_25_code
def yX7_which : MethodName := ⟨RX7, "which", "(LGridTable$Kind;)I"⟩
def dkwX7_which_1 : List UInt8 := [42, 180, 0, 25, 182, 0, 205, 172]
abbrev dktX7_which_1 : List UInt8 := dkwX7_which_1 ++ []
def dkwX7_which_0 : List UInt8 := [43, 178, 1, 99, 166, 0, 5, 2, 172, 42, 43, 178, 1, 105, 166, 0, 10, 42, 180, 0, 21, 167, 0, 7]
abbrev dktX7_which_0 : List UInt8 := dkwX7_which_0 ++ dktX7_which_1
theorem dksX7_which_0 : cX7_which.data.toList.drop 0 = dktX7_which_0 := by decide +kernel
theorem dksX7_which_1 : cX7_which.data.toList.drop 24 = dktX7_which_1 := dk_seg dksX7_which_0 24 rfl rfl
theorem dX7_which_0 : decode cX7_which 0 = .ok (.aload_n 1, 1) := dk_43 (dk_at dksX7_which_0 0 rfl rfl)
theorem dX7_which_1 : decode cX7_which 1 = .ok (.getstatic 355, 3) := dk_178 1 99 (dk_at dksX7_which_0 1 rfl rfl)
theorem dX7_which_4 : decode cX7_which 4 = .ok (.if_acmp .ne 5, 3) := dk_166 0 5 (dk_at dksX7_which_0 4 rfl rfl)
theorem dX7_which_7 : decode cX7_which 7 = .ok (.iconst (-1), 1) := dk_2 (dk_at dksX7_which_0 7 rfl rfl)
theorem dX7_which_8 : decode cX7_which 8 = .ok (.ireturn, 1) := dk_172 (dk_at dksX7_which_0 8 rfl rfl)
theorem dX7_which_9 : decode cX7_which 9 = .ok (.aload_n 0, 1) := dk_42 (dk_at dksX7_which_0 9 rfl rfl)
theorem dX7_which_10 : decode cX7_which 10 = .ok (.aload_n 1, 1) := dk_43 (dk_at dksX7_which_0 10 rfl rfl)
theorem dX7_which_11 : decode cX7_which 11 = .ok (.getstatic 361, 3) := dk_178 1 105 (dk_at dksX7_which_0 11 rfl rfl)
theorem dX7_which_14 : decode cX7_which 14 = .ok (.if_acmp .ne 10, 3) := dk_166 0 10 (dk_at dksX7_which_0 14 rfl rfl)
theorem dX7_which_17 : decode cX7_which 17 = .ok (.aload_n 0, 1) := dk_42 (dk_at dksX7_which_0 17 rfl rfl)
theorem dX7_which_18 : decode cX7_which 18 = .ok (.getfield 21, 3) := dk_180 0 21 (dk_at dksX7_which_0 18 rfl rfl)
theorem dX7_which_21 : decode cX7_which 21 = .ok (.goto 7, 3) := dk_167 0 7 (dk_at dksX7_which_0 21 rfl rfl)
theorem dX7_which_24 : decode cX7_which 24 = .ok (.aload_n 0, 1) := dk_42 (dk_at dksX7_which_1 0 rfl rfl)
theorem dX7_which_25 : decode cX7_which 25 = .ok (.getfield 25, 3) := dk_180 0 25 (dk_at dksX7_which_1 1 rfl rfl)
theorem dX7_which_28 : decode cX7_which 28 = .ok (.invokevirtual 205, 3) := dk_182 0 205 (dk_at dksX7_which_1 4 rfl rfl)
theorem dX7_which_31 : decode cX7_which 31 = .ok (.ireturn, 1) := dk_172 (dk_at dksX7_which_1 7 rfl rfl)
abbrev cX7_deeper : ByteArray := prog_15_method_7_code
def yX7_deeper : MethodName := ⟨RX7, "deeper", "(Ljava/lang/String;)V"⟩
def dkwX7_deeper_1 : List UInt8 := [191, 42, 89, 180, 0, 69, 4, 96, 181, 0, 69, 42, 89, 180, 0, 32, 4, 96, 181, 0, 32, 177]
abbrev dktX7_deeper_1 : List UInt8 := dkwX7_deeper_1 ++ []
def dkwX7_deeper_0 : List UInt8 := [42, 182, 0, 46, 43, 182, 0, 54, 153, 0, 12, 42, 180, 0, 69, 16, 8, 160, 0, 8, 42, 182, 0, 61]
abbrev dktX7_deeper_0 : List UInt8 := dkwX7_deeper_0 ++ dktX7_deeper_1
theorem dksX7_deeper_0 : cX7_deeper.data.toList.drop 0 = dktX7_deeper_0 := by decide +kernel
theorem dksX7_deeper_1 : cX7_deeper.data.toList.drop 24 = dktX7_deeper_1 := dk_seg dksX7_deeper_0 24 rfl rfl
theorem dX7_deeper_0 : decode cX7_deeper 0 = .ok (.aload_n 0, 1) := dk_42 (dk_at dksX7_deeper_0 0 rfl rfl)
theorem dX7_deeper_1 : decode cX7_deeper 1 = .ok (.invokevirtual 46, 3) := dk_182 0 46 (dk_at dksX7_deeper_0 1 rfl rfl)
theorem dX7_deeper_4 : decode cX7_deeper 4 = .ok (.aload_n 1, 1) := dk_43 (dk_at dksX7_deeper_0 4 rfl rfl)
theorem dX7_deeper_5 : decode cX7_deeper 5 = .ok (.invokevirtual 54, 3) := dk_182 0 54 (dk_at dksX7_deeper_0 5 rfl rfl)
theorem dX7_deeper_8 : decode cX7_deeper 8 = .ok (.ifCond .eq 12, 3) := dk_153 0 12 (dk_at dksX7_deeper_0 8 rfl rfl)
theorem dX7_deeper_11 : decode cX7_deeper 11 = .ok (.aload_n 0, 1) := dk_42 (dk_at dksX7_deeper_0 11 rfl rfl)
theorem dX7_deeper_12 : decode cX7_deeper 12 = .ok (.getfield 69, 3) := dk_180 0 69 (dk_at dksX7_deeper_0 12 rfl rfl)
theorem dX7_deeper_15 : decode cX7_deeper 15 = .ok (.bipush 8, 2) := dk_16 8 (dk_at dksX7_deeper_0 15 rfl rfl)
theorem dX7_deeper_17 : decode cX7_deeper 17 = .ok (.if_icmp .ne 8, 3) := dk_160 0 8 (dk_at dksX7_deeper_0 17 rfl rfl)
theorem dX7_deeper_20 : decode cX7_deeper 20 = .ok (.aload_n 0, 1) := dk_42 (dk_at dksX7_deeper_0 20 rfl rfl)
theorem dX7_deeper_21 : decode cX7_deeper 21 = .ok (.invokevirtual 61, 3) := dk_182 0 61 (dk_at dksX7_deeper_0 21 rfl rfl)
theorem dX7_deeper_24 : decode cX7_deeper 24 = .ok (.athrow, 1) := dk_191 (dk_at dksX7_deeper_1 0 rfl rfl)
theorem dX7_deeper_25 : decode cX7_deeper 25 = .ok (.aload_n 0, 1) := dk_42 (dk_at dksX7_deeper_1 1 rfl rfl)
theorem dX7_deeper_26 : decode cX7_deeper 26 = .ok (.dup, 1) := dk_89 (dk_at dksX7_deeper_1 2 rfl rfl)
theorem dX7_deeper_27 : decode cX7_deeper 27 = .ok (.getfield 69, 3) := dk_180 0 69 (dk_at dksX7_deeper_1 3 rfl rfl)
theorem dX7_deeper_30 : decode cX7_deeper 30 = .ok (.iconst 1, 1) := dk_4 (dk_at dksX7_deeper_1 6 rfl rfl)
theorem dX7_deeper_31 : decode cX7_deeper 31 = .ok (.iadd, 1) := dk_96 (dk_at dksX7_deeper_1 7 rfl rfl)
theorem dX7_deeper_32 : decode cX7_deeper 32 = .ok (.putfield 69, 3) := dk_181 0 69 (dk_at dksX7_deeper_1 8 rfl rfl)
theorem dX7_deeper_35 : decode cX7_deeper 35 = .ok (.aload_n 0, 1) := dk_42 (dk_at dksX7_deeper_1 11 rfl rfl)
theorem dX7_deeper_36 : decode cX7_deeper 36 = .ok (.dup, 1) := dk_89 (dk_at dksX7_deeper_1 12 rfl rfl)
theorem dX7_deeper_37 : decode cX7_deeper 37 = .ok (.getfield 32, 3) := dk_180 0 32 (dk_at dksX7_deeper_1 13 rfl rfl)
theorem dX7_deeper_40 : decode cX7_deeper 40 = .ok (.iconst 1, 1) := dk_4 (dk_at dksX7_deeper_1 16 rfl rfl)
theorem dX7_deeper_41 : decode cX7_deeper 41 = .ok (.iadd, 1) := dk_96 (dk_at dksX7_deeper_1 17 rfl rfl)
theorem dX7_deeper_42 : decode cX7_deeper 42 = .ok (.putfield 32, 3) := dk_181 0 32 (dk_at dksX7_deeper_1 18 rfl rfl)
theorem dX7_deeper_45 : decode cX7_deeper 45 = .ok (.return_, 1) := dk_177 (dk_at dksX7_deeper_1 21 rfl rfl)
abbrev cX7_close : ByteArray := prog_15_method_8_code
def yX7_close : MethodName := ⟨RX7, "close", "(Ljava/lang/String;)V"⟩
def dkwX7_close_0 : List UInt8 := [42, 43, 182, 0, 72, 42, 89, 180, 0, 69, 4, 100, 181, 0, 69, 177]
abbrev dktX7_close_0 : List UInt8 := dkwX7_close_0 ++ []
theorem dksX7_close_0 : cX7_close.data.toList.drop 0 = dktX7_close_0 := by decide +kernel
theorem dX7_close_0 : decode cX7_close 0 = .ok (.aload_n 0, 1) := dk_42 (dk_at dksX7_close_0 0 rfl rfl)
theorem dX7_close_1 : decode cX7_close 1 = .ok (.aload_n 1, 1) := dk_43 (dk_at dksX7_close_0 1 rfl rfl)
theorem dX7_close_2 : decode cX7_close 2 = .ok (.invokevirtual 72, 3) := dk_182 0 72 (dk_at dksX7_close_0 2 rfl rfl)
theorem dX7_close_5 : decode cX7_close 5 = .ok (.aload_n 0, 1) := dk_42 (dk_at dksX7_close_0 5 rfl rfl)
theorem dX7_close_6 : decode cX7_close 6 = .ok (.dup, 1) := dk_89 (dk_at dksX7_close_0 6 rfl rfl)
theorem dX7_close_7 : decode cX7_close 7 = .ok (.getfield 69, 3) := dk_180 0 69 (dk_at dksX7_close_0 7 rfl rfl)
theorem dX7_close_10 : decode cX7_close 10 = .ok (.iconst 1, 1) := dk_4 (dk_at dksX7_close_0 10 rfl rfl)
theorem dX7_close_11 : decode cX7_close 11 = .ok (.isub, 1) := dk_100 (dk_at dksX7_close_0 11 rfl rfl)
theorem dX7_close_12 : decode cX7_close 12 = .ok (.putfield 69, 3) := dk_181 0 69 (dk_at dksX7_close_0 12 rfl rfl)
theorem dX7_close_15 : decode cX7_close 15 = .ok (.return_, 1) := dk_177 (dk_at dksX7_close_0 15 rfl rfl)
abbrev cX7_put : ByteArray := prog_15_method_12_code
def yX7_put : MethodName := ⟨RX7, "put", "(Ljava/util/HashMap;Ljava/lang/String;)V"⟩
def dkwX7_put_0 : List UInt8 := [42, 180, 0, 79, 153, 0, 16, 43, 44, 43, 182, 0, 103, 184, 0, 107, 182, 0, 113, 87, 177]
abbrev dktX7_put_0 : List UInt8 := dkwX7_put_0 ++ []
theorem dksX7_put_0 : cX7_put.data.toList.drop 0 = dktX7_put_0 := by decide +kernel
theorem dX7_put_0 : decode cX7_put 0 = .ok (.aload_n 0, 1) := dk_42 (dk_at dksX7_put_0 0 rfl rfl)
theorem dX7_put_1 : decode cX7_put 1 = .ok (.getfield 79, 3) := dk_180 0 79 (dk_at dksX7_put_0 1 rfl rfl)
theorem dX7_put_4 : decode cX7_put 4 = .ok (.ifCond .eq 16, 3) := dk_153 0 16 (dk_at dksX7_put_0 4 rfl rfl)
theorem dX7_put_7 : decode cX7_put 7 = .ok (.aload_n 1, 1) := dk_43 (dk_at dksX7_put_0 7 rfl rfl)
theorem dX7_put_8 : decode cX7_put 8 = .ok (.aload_n 2, 1) := dk_44 (dk_at dksX7_put_0 8 rfl rfl)
theorem dX7_put_9 : decode cX7_put 9 = .ok (.aload_n 1, 1) := dk_43 (dk_at dksX7_put_0 9 rfl rfl)
theorem dX7_put_10 : decode cX7_put 10 = .ok (.invokevirtual 103, 3) := dk_182 0 103 (dk_at dksX7_put_0 10 rfl rfl)
theorem dX7_put_13 : decode cX7_put 13 = .ok (.invokestatic 107, 3) := dk_184 0 107 (dk_at dksX7_put_0 13 rfl rfl)
theorem dX7_put_16 : decode cX7_put 16 = .ok (.invokevirtual 113, 3) := dk_182 0 113 (dk_at dksX7_put_0 16 rfl rfl)
theorem dX7_put_19 : decode cX7_put 19 = .ok (.pop, 1) := dk_87 (dk_at dksX7_put_0 19 rfl rfl)
theorem dX7_put_20 : decode cX7_put 20 = .ok (.return_, 1) := dk_177 (dk_at dksX7_put_0 20 rfl rfl)
abbrev cX7_shape : ByteArray := prog_15_method_17_code
def yX7_shape : MethodName := ⟨RX7, "shape", "()V"⟩
def dkwX7_shape_3 : List UInt8 := [183, 0, 199, 182, 0, 202, 87, 42, 42, 180, 0, 25, 43, 182, 0, 177, 177]
abbrev dktX7_shape_3 : List UInt8 := dkwX7_shape_3 ++ []
def dkwX7_shape_2 : List UInt8 := [165, 255, 233, 42, 180, 0, 12, 180, 0, 189, 187, 0, 192, 89, 42, 180, 0, 12, 89, 184, 0, 194, 87, 44]
abbrev dktX7_shape_2 : List UInt8 := dkwX7_shape_2 ++ dktX7_shape_3
def dkwX7_shape_1 : List UInt8 := [77, 42, 44, 182, 0, 184, 44, 182, 0, 188, 6, 161, 255, 246, 42, 182, 0, 46, 180, 0, 65, 178, 0, 83]
abbrev dktX7_shape_1 : List UInt8 := dkwX7_shape_1 ++ dktX7_shape_2
def dkwX7_shape_0 : List UInt8 := [42, 42, 180, 0, 25, 16, 8, 182, 0, 155, 76, 42, 18, 180, 182, 0, 72, 187, 0, 181, 89, 183, 0, 183]
abbrev dktX7_shape_0 : List UInt8 := dkwX7_shape_0 ++ dktX7_shape_1
theorem dksX7_shape_0 : cX7_shape.data.toList.drop 0 = dktX7_shape_0 := by decide +kernel
theorem dksX7_shape_1 : cX7_shape.data.toList.drop 24 = dktX7_shape_1 := dk_seg dksX7_shape_0 24 rfl rfl
theorem dksX7_shape_2 : cX7_shape.data.toList.drop 48 = dktX7_shape_2 := dk_seg dksX7_shape_1 24 rfl rfl
theorem dksX7_shape_3 : cX7_shape.data.toList.drop 72 = dktX7_shape_3 := dk_seg dksX7_shape_2 24 rfl rfl
theorem dX7_shape_0 : decode cX7_shape 0 = .ok (.aload_n 0, 1) := dk_42 (dk_at dksX7_shape_0 0 rfl rfl)
theorem dX7_shape_1 : decode cX7_shape 1 = .ok (.aload_n 0, 1) := dk_42 (dk_at dksX7_shape_0 1 rfl rfl)
theorem dX7_shape_2 : decode cX7_shape 2 = .ok (.getfield 25, 3) := dk_180 0 25 (dk_at dksX7_shape_0 2 rfl rfl)
theorem dX7_shape_5 : decode cX7_shape 5 = .ok (.bipush 8, 2) := dk_16 8 (dk_at dksX7_shape_0 5 rfl rfl)
theorem dX7_shape_7 : decode cX7_shape 7 = .ok (.invokevirtual 155, 3) := dk_182 0 155 (dk_at dksX7_shape_0 7 rfl rfl)
theorem dX7_shape_10 : decode cX7_shape 10 = .ok (.astore_n 1, 1) := dk_76 (dk_at dksX7_shape_0 10 rfl rfl)
theorem dX7_shape_11 : decode cX7_shape 11 = .ok (.aload_n 0, 1) := dk_42 (dk_at dksX7_shape_0 11 rfl rfl)
theorem dX7_shape_12 : decode cX7_shape 12 = .ok (.ldc 180, 2) := dk_18 180 (dk_at dksX7_shape_0 12 rfl rfl)
theorem dX7_shape_14 : decode cX7_shape 14 = .ok (.invokevirtual 72, 3) := dk_182 0 72 (dk_at dksX7_shape_0 14 rfl rfl)
theorem dX7_shape_17 : decode cX7_shape 17 = .ok (.new 181, 3) := dk_187 0 181 (dk_at dksX7_shape_0 17 rfl rfl)
theorem dX7_shape_20 : decode cX7_shape 20 = .ok (.dup, 1) := dk_89 (dk_at dksX7_shape_0 20 rfl rfl)
theorem dX7_shape_21 : decode cX7_shape 21 = .ok (.invokespecial 183, 3) := dk_183 0 183 (dk_at dksX7_shape_0 21 rfl rfl)
theorem dX7_shape_24 : decode cX7_shape 24 = .ok (.astore_n 2, 1) := dk_77 (dk_at dksX7_shape_1 0 rfl rfl)
theorem dX7_shape_25 : decode cX7_shape 25 = .ok (.aload_n 0, 1) := dk_42 (dk_at dksX7_shape_1 1 rfl rfl)
theorem dX7_shape_26 : decode cX7_shape 26 = .ok (.aload_n 2, 1) := dk_44 (dk_at dksX7_shape_1 2 rfl rfl)
theorem dX7_shape_27 : decode cX7_shape 27 = .ok (.invokevirtual 184, 3) := dk_182 0 184 (dk_at dksX7_shape_1 3 rfl rfl)
theorem dX7_shape_30 : decode cX7_shape 30 = .ok (.aload_n 2, 1) := dk_44 (dk_at dksX7_shape_1 6 rfl rfl)
theorem dX7_shape_31 : decode cX7_shape 31 = .ok (.invokevirtual 188, 3) := dk_182 0 188 (dk_at dksX7_shape_1 7 rfl rfl)
theorem dX7_shape_34 : decode cX7_shape 34 = .ok (.iconst 3, 1) := dk_6 (dk_at dksX7_shape_1 10 rfl rfl)
theorem dX7_shape_35 : decode cX7_shape 35 = .ok (.if_icmp .lt (-10), 3) := dk_161 255 246 (dk_at dksX7_shape_1 11 rfl rfl)
theorem dX7_shape_38 : decode cX7_shape 38 = .ok (.aload_n 0, 1) := dk_42 (dk_at dksX7_shape_1 14 rfl rfl)
theorem dX7_shape_39 : decode cX7_shape 39 = .ok (.invokevirtual 46, 3) := dk_182 0 46 (dk_at dksX7_shape_1 15 rfl rfl)
theorem dX7_shape_42 : decode cX7_shape 42 = .ok (.getfield 65, 3) := dk_180 0 65 (dk_at dksX7_shape_1 18 rfl rfl)
theorem dX7_shape_45 : decode cX7_shape 45 = .ok (.getstatic 83, 3) := dk_178 0 83 (dk_at dksX7_shape_1 21 rfl rfl)
theorem dX7_shape_48 : decode cX7_shape 48 = .ok (.if_acmp .eq (-23), 3) := dk_165 255 233 (dk_at dksX7_shape_2 0 rfl rfl)
theorem dX7_shape_51 : decode cX7_shape 51 = .ok (.aload_n 0, 1) := dk_42 (dk_at dksX7_shape_2 3 rfl rfl)
theorem dX7_shape_52 : decode cX7_shape 52 = .ok (.getfield 12, 3) := dk_180 0 12 (dk_at dksX7_shape_2 4 rfl rfl)
theorem dX7_shape_55 : decode cX7_shape 55 = .ok (.getfield 189, 3) := dk_180 0 189 (dk_at dksX7_shape_2 7 rfl rfl)
theorem dX7_shape_58 : decode cX7_shape 58 = .ok (.new 192, 3) := dk_187 0 192 (dk_at dksX7_shape_2 10 rfl rfl)
theorem dX7_shape_61 : decode cX7_shape 61 = .ok (.dup, 1) := dk_89 (dk_at dksX7_shape_2 13 rfl rfl)
theorem dX7_shape_62 : decode cX7_shape 62 = .ok (.aload_n 0, 1) := dk_42 (dk_at dksX7_shape_2 14 rfl rfl)
theorem dX7_shape_63 : decode cX7_shape 63 = .ok (.getfield 12, 3) := dk_180 0 12 (dk_at dksX7_shape_2 15 rfl rfl)
theorem dX7_shape_66 : decode cX7_shape 66 = .ok (.dup, 1) := dk_89 (dk_at dksX7_shape_2 18 rfl rfl)
theorem dX7_shape_67 : decode cX7_shape 67 = .ok (.invokestatic 194, 3) := dk_184 0 194 (dk_at dksX7_shape_2 19 rfl rfl)
theorem dX7_shape_70 : decode cX7_shape 70 = .ok (.pop, 1) := dk_87 (dk_at dksX7_shape_2 22 rfl rfl)
theorem dX7_shape_71 : decode cX7_shape 71 = .ok (.aload_n 2, 1) := dk_44 (dk_at dksX7_shape_2 23 rfl rfl)
theorem dX7_shape_72 : decode cX7_shape 72 = .ok (.invokespecial 199, 3) := dk_183 0 199 (dk_at dksX7_shape_3 0 rfl rfl)
theorem dX7_shape_75 : decode cX7_shape 75 = .ok (.invokevirtual 202, 3) := dk_182 0 202 (dk_at dksX7_shape_3 3 rfl rfl)
theorem dX7_shape_78 : decode cX7_shape 78 = .ok (.pop, 1) := dk_87 (dk_at dksX7_shape_3 6 rfl rfl)
theorem dX7_shape_79 : decode cX7_shape 79 = .ok (.aload_n 0, 1) := dk_42 (dk_at dksX7_shape_3 7 rfl rfl)
theorem dX7_shape_80 : decode cX7_shape 80 = .ok (.aload_n 0, 1) := dk_42 (dk_at dksX7_shape_3 8 rfl rfl)
theorem dX7_shape_81 : decode cX7_shape 81 = .ok (.getfield 25, 3) := dk_180 0 25 (dk_at dksX7_shape_3 9 rfl rfl)
theorem dX7_shape_84 : decode cX7_shape 84 = .ok (.aload_n 1, 1) := dk_43 (dk_at dksX7_shape_3 12 rfl rfl)
theorem dX7_shape_85 : decode cX7_shape 85 = .ok (.invokevirtual 177, 3) := dk_182 0 177 (dk_at dksX7_shape_3 13 rfl rfl)
theorem dX7_shape_88 : decode cX7_shape 88 = .ok (.return_, 1) := dk_177 (dk_at dksX7_shape_3 16 rfl rfl)
abbrev cX7_corner : ByteArray := prog_15_method_18_code
def yX7_corner : MethodName := ⟨RX7, "corner", "(Ljava/util/List;)V"⟩
def dkwX7_corner_2 : List UInt8 := [154, 0, 7, 4, 167, 0, 4, 3, 44, 182, 0, 99, 43, 29, 184, 0, 107, 185, 0, 213, 2, 0, 87, 177]
abbrev dktX7_corner_2 : List UInt8 := dkwX7_corner_2 ++ []
def dkwX7_corner_1 : List UInt8 := [162, 0, 7, 4, 167, 0, 4, 3, 44, 182, 0, 99, 42, 8, 43, 29, 184, 0, 107, 185, 0, 210, 2, 0]
abbrev dktX7_corner_1 : List UInt8 := dkwX7_corner_1 ++ dktX7_corner_2
def dkwX7_corner_0 : List UInt8 := [42, 182, 0, 46, 77, 42, 42, 180, 0, 21, 182, 0, 205, 62, 42, 7, 43, 185, 0, 209, 1, 0, 16, 8]
abbrev dktX7_corner_0 : List UInt8 := dkwX7_corner_0 ++ dktX7_corner_1
theorem dksX7_corner_0 : cX7_corner.data.toList.drop 0 = dktX7_corner_0 := by decide +kernel
theorem dksX7_corner_1 : cX7_corner.data.toList.drop 24 = dktX7_corner_1 := dk_seg dksX7_corner_0 24 rfl rfl
theorem dksX7_corner_2 : cX7_corner.data.toList.drop 48 = dktX7_corner_2 := dk_seg dksX7_corner_1 24 rfl rfl
theorem dX7_corner_0 : decode cX7_corner 0 = .ok (.aload_n 0, 1) := dk_42 (dk_at dksX7_corner_0 0 rfl rfl)
theorem dX7_corner_1 : decode cX7_corner 1 = .ok (.invokevirtual 46, 3) := dk_182 0 46 (dk_at dksX7_corner_0 1 rfl rfl)
theorem dX7_corner_4 : decode cX7_corner 4 = .ok (.astore_n 2, 1) := dk_77 (dk_at dksX7_corner_0 4 rfl rfl)
theorem dX7_corner_5 : decode cX7_corner 5 = .ok (.aload_n 0, 1) := dk_42 (dk_at dksX7_corner_0 5 rfl rfl)
theorem dX7_corner_6 : decode cX7_corner 6 = .ok (.aload_n 0, 1) := dk_42 (dk_at dksX7_corner_0 6 rfl rfl)
theorem dX7_corner_7 : decode cX7_corner 7 = .ok (.getfield 21, 3) := dk_180 0 21 (dk_at dksX7_corner_0 7 rfl rfl)
theorem dX7_corner_10 : decode cX7_corner 10 = .ok (.invokevirtual 205, 3) := dk_182 0 205 (dk_at dksX7_corner_0 10 rfl rfl)
theorem dX7_corner_13 : decode cX7_corner 13 = .ok (.istore_n 3, 1) := dk_62 (dk_at dksX7_corner_0 13 rfl rfl)
theorem dX7_corner_14 : decode cX7_corner 14 = .ok (.aload_n 0, 1) := dk_42 (dk_at dksX7_corner_0 14 rfl rfl)
theorem dX7_corner_15 : decode cX7_corner 15 = .ok (.iconst 4, 1) := dk_7 (dk_at dksX7_corner_0 15 rfl rfl)
theorem dX7_corner_16 : decode cX7_corner 16 = .ok (.aload_n 1, 1) := dk_43 (dk_at dksX7_corner_0 16 rfl rfl)
theorem dX7_corner_17 : decode cX7_corner 17 = .ok (.invokeinterface 209 1, 5) := by decide +kernel
theorem dX7_corner_22 : decode cX7_corner 22 = .ok (.bipush 8, 2) := dk_16 8 (dk_at dksX7_corner_0 22 rfl rfl)
theorem dX7_corner_24 : decode cX7_corner 24 = .ok (.if_icmp .ge 7, 3) := dk_162 0 7 (dk_at dksX7_corner_1 0 rfl rfl)
theorem dX7_corner_27 : decode cX7_corner 27 = .ok (.iconst 1, 1) := dk_4 (dk_at dksX7_corner_1 3 rfl rfl)
theorem dX7_corner_28 : decode cX7_corner 28 = .ok (.goto 4, 3) := dk_167 0 4 (dk_at dksX7_corner_1 4 rfl rfl)
theorem dX7_corner_31 : decode cX7_corner 31 = .ok (.iconst 0, 1) := dk_3 (dk_at dksX7_corner_1 7 rfl rfl)
theorem dX7_corner_32 : decode cX7_corner 32 = .ok (.aload_n 2, 1) := dk_44 (dk_at dksX7_corner_1 8 rfl rfl)
theorem dX7_corner_33 : decode cX7_corner 33 = .ok (.invokevirtual 99, 3) := dk_182 0 99 (dk_at dksX7_corner_1 9 rfl rfl)
theorem dX7_corner_36 : decode cX7_corner 36 = .ok (.aload_n 0, 1) := dk_42 (dk_at dksX7_corner_1 12 rfl rfl)
theorem dX7_corner_37 : decode cX7_corner 37 = .ok (.iconst 5, 1) := dk_8 (dk_at dksX7_corner_1 13 rfl rfl)
theorem dX7_corner_38 : decode cX7_corner 38 = .ok (.aload_n 1, 1) := dk_43 (dk_at dksX7_corner_1 14 rfl rfl)
theorem dX7_corner_39 : decode cX7_corner 39 = .ok (.iload_n 3, 1) := dk_29 (dk_at dksX7_corner_1 15 rfl rfl)
theorem dX7_corner_40 : decode cX7_corner 40 = .ok (.invokestatic 107, 3) := dk_184 0 107 (dk_at dksX7_corner_1 16 rfl rfl)
theorem dX7_corner_43 : decode cX7_corner 43 = .ok (.invokeinterface 210 2, 5) := by decide +kernel
theorem dX7_corner_48 : decode cX7_corner 48 = .ok (.ifCond .ne 7, 3) := dk_154 0 7 (dk_at dksX7_corner_2 0 rfl rfl)
theorem dX7_corner_51 : decode cX7_corner 51 = .ok (.iconst 1, 1) := dk_4 (dk_at dksX7_corner_2 3 rfl rfl)
theorem dX7_corner_52 : decode cX7_corner 52 = .ok (.goto 4, 3) := dk_167 0 4 (dk_at dksX7_corner_2 4 rfl rfl)
theorem dX7_corner_55 : decode cX7_corner 55 = .ok (.iconst 0, 1) := dk_3 (dk_at dksX7_corner_2 7 rfl rfl)
theorem dX7_corner_56 : decode cX7_corner 56 = .ok (.aload_n 2, 1) := dk_44 (dk_at dksX7_corner_2 8 rfl rfl)
theorem dX7_corner_57 : decode cX7_corner 57 = .ok (.invokevirtual 99, 3) := dk_182 0 99 (dk_at dksX7_corner_2 9 rfl rfl)
theorem dX7_corner_60 : decode cX7_corner 60 = .ok (.aload_n 1, 1) := dk_43 (dk_at dksX7_corner_2 12 rfl rfl)
theorem dX7_corner_61 : decode cX7_corner 61 = .ok (.iload_n 3, 1) := dk_29 (dk_at dksX7_corner_2 13 rfl rfl)
theorem dX7_corner_62 : decode cX7_corner 62 = .ok (.invokestatic 107, 3) := dk_184 0 107 (dk_at dksX7_corner_2 14 rfl rfl)
theorem dX7_corner_65 : decode cX7_corner 65 = .ok (.invokeinterface 213 2, 5) := by decide +kernel
theorem dX7_corner_70 : decode cX7_corner 70 = .ok (.pop, 1) := dk_87 (dk_at dksX7_corner_2 22 rfl rfl)
theorem dX7_corner_71 : decode cX7_corner 71 = .ok (.return_, 1) := dk_177 (dk_at dksX7_corner_2 23 rfl rfl)
abbrev cX7_step : ByteArray := prog_15_method_19_code
def yX7_step : MethodName := ⟨RX7, "step", "(LGridTable$Token;)V"⟩
def dkwX7_step_9 : List UInt8 := [153, 0, 10, 42, 182, 0, 249, 167, 0, 6, 184, 0, 253, 183, 1, 2, 182, 0, 202, 87, 177]
abbrev dktX7_step_9 : List UInt8 := dkwX7_step_9 ++ []
def dkwX7_step_8 : List UInt8 := [180, 0, 12, 180, 0, 232, 187, 0, 245, 89, 44, 29, 21, 4, 25, 5, 25, 6, 42, 18, 247, 182, 0, 58]
abbrev dktX7_step_8 : List UInt8 := dkwX7_step_8 ++ dktX7_step_9
def dkwX7_step_7 : List UInt8 := [182, 0, 160, 184, 0, 243, 58, 6, 167, 0, 13, 42, 42, 180, 0, 21, 182, 0, 205, 54, 4, 42]
abbrev dktX7_step_7 : List UInt8 := dkwX7_step_7 ++ dktX7_step_8
def dkwX7_step_6 : List UInt8 := [178, 0, 216, 166, 0, 30, 42, 182, 0, 160, 184, 0, 243, 58, 5, 42, 18, 164, 182, 0, 72, 42]
abbrev dktX7_step_6 : List UInt8 := dkwX7_step_6 ++ dktX7_step_7
def dkwX7_step_5 : List UInt8 := [18, 237, 167, 0, 5, 18, 159, 182, 0, 72, 2, 54, 4, 184, 0, 239, 58, 5, 184, 0, 239, 58, 6, 44]
abbrev dktX7_step_5 : List UInt8 := dkwX7_step_5 ++ dktX7_step_6
def dkwX7_step_4 : List UInt8 := [182, 0, 205, 62, 42, 44, 178, 0, 216, 166, 0, 8, 18, 235, 167, 0, 17, 44, 178, 0, 224, 166, 0, 8]
abbrev dktX7_step_4 : List UInt8 := dkwX7_step_4 ++ dktX7_step_5
def dkwX7_step_3 : List UInt8 := [182, 0, 99, 42, 44, 178, 0, 216, 166, 0, 10, 42, 180, 0, 21, 167, 0, 7, 42, 180, 0, 25]
abbrev dktX7_step_3 : List UInt8 := dkwX7_step_3 ++ dktX7_step_4
def dkwX7_step_2 : List UInt8 := [7, 42, 180, 0, 12, 180, 0, 232, 182, 0, 188, 16, 20, 162, 0, 7, 4, 167, 0, 4, 3, 43]
abbrev dktX7_step_2 : List UInt8 := dkwX7_step_2 ++ dktX7_step_3
def dkwX7_step_1 : List UInt8 := [178, 0, 224, 167, 0, 6, 178, 0, 227, 77, 44, 178, 0, 227, 166, 0, 9, 42, 18, 230, 182, 0, 72, 42]
abbrev dktX7_step_1 : List UInt8 := dkwX7_step_1 ++ dktX7_step_2
def dkwX7_step_0 : List UInt8 := [42, 18, 214, 182, 0, 58, 153, 0, 9, 178, 0, 216, 167, 0, 21, 42, 18, 222, 182, 0, 58, 153, 0, 9]
abbrev dktX7_step_0 : List UInt8 := dkwX7_step_0 ++ dktX7_step_1
theorem dksX7_step_0 : cX7_step.data.toList.drop 0 = dktX7_step_0 := by decide +kernel
theorem dksX7_step_1 : cX7_step.data.toList.drop 24 = dktX7_step_1 := dk_seg dksX7_step_0 24 rfl rfl
theorem dksX7_step_2 : cX7_step.data.toList.drop 48 = dktX7_step_2 := dk_seg dksX7_step_1 24 rfl rfl
theorem dksX7_step_3 : cX7_step.data.toList.drop 70 = dktX7_step_3 := dk_seg dksX7_step_2 22 rfl rfl
theorem dksX7_step_4 : cX7_step.data.toList.drop 92 = dktX7_step_4 := dk_seg dksX7_step_3 22 rfl rfl
theorem dksX7_step_5 : cX7_step.data.toList.drop 116 = dktX7_step_5 := dk_seg dksX7_step_4 24 rfl rfl
theorem dksX7_step_6 : cX7_step.data.toList.drop 140 = dktX7_step_6 := dk_seg dksX7_step_5 24 rfl rfl
theorem dksX7_step_7 : cX7_step.data.toList.drop 162 = dktX7_step_7 := dk_seg dksX7_step_6 22 rfl rfl
theorem dksX7_step_8 : cX7_step.data.toList.drop 184 = dktX7_step_8 := dk_seg dksX7_step_7 22 rfl rfl
theorem dksX7_step_9 : cX7_step.data.toList.drop 208 = dktX7_step_9 := dk_seg dksX7_step_8 24 rfl rfl
theorem dX7_step_0 : decode cX7_step 0 = .ok (.aload_n 0, 1) := dk_42 (dk_at dksX7_step_0 0 rfl rfl)
theorem dX7_step_1 : decode cX7_step 1 = .ok (.ldc 214, 2) := dk_18 214 (dk_at dksX7_step_0 1 rfl rfl)
theorem dX7_step_3 : decode cX7_step 3 = .ok (.invokevirtual 58, 3) := dk_182 0 58 (dk_at dksX7_step_0 3 rfl rfl)
theorem dX7_step_6 : decode cX7_step 6 = .ok (.ifCond .eq 9, 3) := dk_153 0 9 (dk_at dksX7_step_0 6 rfl rfl)
theorem dX7_step_9 : decode cX7_step 9 = .ok (.getstatic 216, 3) := dk_178 0 216 (dk_at dksX7_step_0 9 rfl rfl)
theorem dX7_step_12 : decode cX7_step 12 = .ok (.goto 21, 3) := dk_167 0 21 (dk_at dksX7_step_0 12 rfl rfl)
theorem dX7_step_15 : decode cX7_step 15 = .ok (.aload_n 0, 1) := dk_42 (dk_at dksX7_step_0 15 rfl rfl)
theorem dX7_step_16 : decode cX7_step 16 = .ok (.ldc 222, 2) := dk_18 222 (dk_at dksX7_step_0 16 rfl rfl)
theorem dX7_step_18 : decode cX7_step 18 = .ok (.invokevirtual 58, 3) := dk_182 0 58 (dk_at dksX7_step_0 18 rfl rfl)
theorem dX7_step_21 : decode cX7_step 21 = .ok (.ifCond .eq 9, 3) := dk_153 0 9 (dk_at dksX7_step_0 21 rfl rfl)
theorem dX7_step_24 : decode cX7_step 24 = .ok (.getstatic 224, 3) := dk_178 0 224 (dk_at dksX7_step_1 0 rfl rfl)
theorem dX7_step_27 : decode cX7_step 27 = .ok (.goto 6, 3) := dk_167 0 6 (dk_at dksX7_step_1 3 rfl rfl)
theorem dX7_step_30 : decode cX7_step 30 = .ok (.getstatic 227, 3) := dk_178 0 227 (dk_at dksX7_step_1 6 rfl rfl)
theorem dX7_step_33 : decode cX7_step 33 = .ok (.astore_n 2, 1) := dk_77 (dk_at dksX7_step_1 9 rfl rfl)
theorem dX7_step_34 : decode cX7_step 34 = .ok (.aload_n 2, 1) := dk_44 (dk_at dksX7_step_1 10 rfl rfl)
theorem dX7_step_35 : decode cX7_step 35 = .ok (.getstatic 227, 3) := dk_178 0 227 (dk_at dksX7_step_1 11 rfl rfl)
theorem dX7_step_38 : decode cX7_step 38 = .ok (.if_acmp .ne 9, 3) := dk_166 0 9 (dk_at dksX7_step_1 14 rfl rfl)
theorem dX7_step_41 : decode cX7_step 41 = .ok (.aload_n 0, 1) := dk_42 (dk_at dksX7_step_1 17 rfl rfl)
theorem dX7_step_42 : decode cX7_step 42 = .ok (.ldc 230, 2) := dk_18 230 (dk_at dksX7_step_1 18 rfl rfl)
theorem dX7_step_44 : decode cX7_step 44 = .ok (.invokevirtual 72, 3) := dk_182 0 72 (dk_at dksX7_step_1 20 rfl rfl)
theorem dX7_step_47 : decode cX7_step 47 = .ok (.aload_n 0, 1) := dk_42 (dk_at dksX7_step_1 23 rfl rfl)
theorem dX7_step_48 : decode cX7_step 48 = .ok (.iconst 4, 1) := dk_7 (dk_at dksX7_step_2 0 rfl rfl)
theorem dX7_step_49 : decode cX7_step 49 = .ok (.aload_n 0, 1) := dk_42 (dk_at dksX7_step_2 1 rfl rfl)
theorem dX7_step_50 : decode cX7_step 50 = .ok (.getfield 12, 3) := dk_180 0 12 (dk_at dksX7_step_2 2 rfl rfl)
theorem dX7_step_53 : decode cX7_step 53 = .ok (.getfield 232, 3) := dk_180 0 232 (dk_at dksX7_step_2 5 rfl rfl)
theorem dX7_step_56 : decode cX7_step 56 = .ok (.invokevirtual 188, 3) := dk_182 0 188 (dk_at dksX7_step_2 8 rfl rfl)
theorem dX7_step_59 : decode cX7_step 59 = .ok (.bipush 20, 2) := dk_16 20 (dk_at dksX7_step_2 11 rfl rfl)
theorem dX7_step_61 : decode cX7_step 61 = .ok (.if_icmp .ge 7, 3) := dk_162 0 7 (dk_at dksX7_step_2 13 rfl rfl)
theorem dX7_step_64 : decode cX7_step 64 = .ok (.iconst 1, 1) := dk_4 (dk_at dksX7_step_2 16 rfl rfl)
theorem dX7_step_65 : decode cX7_step 65 = .ok (.goto 4, 3) := dk_167 0 4 (dk_at dksX7_step_2 17 rfl rfl)
theorem dX7_step_68 : decode cX7_step 68 = .ok (.iconst 0, 1) := dk_3 (dk_at dksX7_step_2 20 rfl rfl)
theorem dX7_step_69 : decode cX7_step 69 = .ok (.aload_n 1, 1) := dk_43 (dk_at dksX7_step_2 21 rfl rfl)
theorem dX7_step_70 : decode cX7_step 70 = .ok (.invokevirtual 99, 3) := dk_182 0 99 (dk_at dksX7_step_3 0 rfl rfl)
theorem dX7_step_73 : decode cX7_step 73 = .ok (.aload_n 0, 1) := dk_42 (dk_at dksX7_step_3 3 rfl rfl)
theorem dX7_step_74 : decode cX7_step 74 = .ok (.aload_n 2, 1) := dk_44 (dk_at dksX7_step_3 4 rfl rfl)
theorem dX7_step_75 : decode cX7_step 75 = .ok (.getstatic 216, 3) := dk_178 0 216 (dk_at dksX7_step_3 5 rfl rfl)
theorem dX7_step_78 : decode cX7_step 78 = .ok (.if_acmp .ne 10, 3) := dk_166 0 10 (dk_at dksX7_step_3 8 rfl rfl)
theorem dX7_step_81 : decode cX7_step 81 = .ok (.aload_n 0, 1) := dk_42 (dk_at dksX7_step_3 11 rfl rfl)
theorem dX7_step_82 : decode cX7_step 82 = .ok (.getfield 21, 3) := dk_180 0 21 (dk_at dksX7_step_3 12 rfl rfl)
theorem dX7_step_85 : decode cX7_step 85 = .ok (.goto 7, 3) := dk_167 0 7 (dk_at dksX7_step_3 15 rfl rfl)
theorem dX7_step_88 : decode cX7_step 88 = .ok (.aload_n 0, 1) := dk_42 (dk_at dksX7_step_3 18 rfl rfl)
theorem dX7_step_89 : decode cX7_step 89 = .ok (.getfield 25, 3) := dk_180 0 25 (dk_at dksX7_step_3 19 rfl rfl)
theorem dX7_step_92 : decode cX7_step 92 = .ok (.invokevirtual 205, 3) := dk_182 0 205 (dk_at dksX7_step_4 0 rfl rfl)
theorem dX7_step_95 : decode cX7_step 95 = .ok (.istore_n 3, 1) := dk_62 (dk_at dksX7_step_4 3 rfl rfl)
theorem dX7_step_96 : decode cX7_step 96 = .ok (.aload_n 0, 1) := dk_42 (dk_at dksX7_step_4 4 rfl rfl)
theorem dX7_step_97 : decode cX7_step 97 = .ok (.aload_n 2, 1) := dk_44 (dk_at dksX7_step_4 5 rfl rfl)
theorem dX7_step_98 : decode cX7_step 98 = .ok (.getstatic 216, 3) := dk_178 0 216 (dk_at dksX7_step_4 6 rfl rfl)
theorem dX7_step_101 : decode cX7_step 101 = .ok (.if_acmp .ne 8, 3) := dk_166 0 8 (dk_at dksX7_step_4 9 rfl rfl)
theorem dX7_step_104 : decode cX7_step 104 = .ok (.ldc 235, 2) := dk_18 235 (dk_at dksX7_step_4 12 rfl rfl)
theorem dX7_step_106 : decode cX7_step 106 = .ok (.goto 17, 3) := dk_167 0 17 (dk_at dksX7_step_4 14 rfl rfl)
theorem dX7_step_109 : decode cX7_step 109 = .ok (.aload_n 2, 1) := dk_44 (dk_at dksX7_step_4 17 rfl rfl)
theorem dX7_step_110 : decode cX7_step 110 = .ok (.getstatic 224, 3) := dk_178 0 224 (dk_at dksX7_step_4 18 rfl rfl)
theorem dX7_step_113 : decode cX7_step 113 = .ok (.if_acmp .ne 8, 3) := dk_166 0 8 (dk_at dksX7_step_4 21 rfl rfl)
theorem dX7_step_116 : decode cX7_step 116 = .ok (.ldc 237, 2) := dk_18 237 (dk_at dksX7_step_5 0 rfl rfl)
theorem dX7_step_118 : decode cX7_step 118 = .ok (.goto 5, 3) := dk_167 0 5 (dk_at dksX7_step_5 2 rfl rfl)
theorem dX7_step_121 : decode cX7_step 121 = .ok (.ldc 159, 2) := dk_18 159 (dk_at dksX7_step_5 5 rfl rfl)
theorem dX7_step_123 : decode cX7_step 123 = .ok (.invokevirtual 72, 3) := dk_182 0 72 (dk_at dksX7_step_5 7 rfl rfl)
theorem dX7_step_126 : decode cX7_step 126 = .ok (.iconst (-1), 1) := dk_2 (dk_at dksX7_step_5 10 rfl rfl)
theorem dX7_step_127 : decode cX7_step 127 = .ok (.istore 4, 2) := dk_54 4 (dk_at dksX7_step_5 11 rfl rfl)
theorem dX7_step_129 : decode cX7_step 129 = .ok (.invokestatic 239, 3) := dk_184 0 239 (dk_at dksX7_step_5 13 rfl rfl)
theorem dX7_step_132 : decode cX7_step 132 = .ok (.astore 5, 2) := dk_58 5 (dk_at dksX7_step_5 16 rfl rfl)
theorem dX7_step_134 : decode cX7_step 134 = .ok (.invokestatic 239, 3) := dk_184 0 239 (dk_at dksX7_step_5 18 rfl rfl)
theorem dX7_step_137 : decode cX7_step 137 = .ok (.astore 6, 2) := dk_58 6 (dk_at dksX7_step_5 21 rfl rfl)
theorem dX7_step_139 : decode cX7_step 139 = .ok (.aload_n 2, 1) := dk_44 (dk_at dksX7_step_5 23 rfl rfl)
theorem dX7_step_140 : decode cX7_step 140 = .ok (.getstatic 216, 3) := dk_178 0 216 (dk_at dksX7_step_6 0 rfl rfl)
theorem dX7_step_143 : decode cX7_step 143 = .ok (.if_acmp .ne 30, 3) := dk_166 0 30 (dk_at dksX7_step_6 3 rfl rfl)
theorem dX7_step_146 : decode cX7_step 146 = .ok (.aload_n 0, 1) := dk_42 (dk_at dksX7_step_6 6 rfl rfl)
theorem dX7_step_147 : decode cX7_step 147 = .ok (.invokevirtual 160, 3) := dk_182 0 160 (dk_at dksX7_step_6 7 rfl rfl)
theorem dX7_step_150 : decode cX7_step 150 = .ok (.invokestatic 243, 3) := dk_184 0 243 (dk_at dksX7_step_6 10 rfl rfl)
theorem dX7_step_153 : decode cX7_step 153 = .ok (.astore 5, 2) := dk_58 5 (dk_at dksX7_step_6 13 rfl rfl)
theorem dX7_step_155 : decode cX7_step 155 = .ok (.aload_n 0, 1) := dk_42 (dk_at dksX7_step_6 15 rfl rfl)
theorem dX7_step_156 : decode cX7_step 156 = .ok (.ldc 164, 2) := dk_18 164 (dk_at dksX7_step_6 16 rfl rfl)
theorem dX7_step_158 : decode cX7_step 158 = .ok (.invokevirtual 72, 3) := dk_182 0 72 (dk_at dksX7_step_6 18 rfl rfl)
theorem dX7_step_161 : decode cX7_step 161 = .ok (.aload_n 0, 1) := dk_42 (dk_at dksX7_step_6 21 rfl rfl)
theorem dX7_step_162 : decode cX7_step 162 = .ok (.invokevirtual 160, 3) := dk_182 0 160 (dk_at dksX7_step_7 0 rfl rfl)
theorem dX7_step_165 : decode cX7_step 165 = .ok (.invokestatic 243, 3) := dk_184 0 243 (dk_at dksX7_step_7 3 rfl rfl)
theorem dX7_step_168 : decode cX7_step 168 = .ok (.astore 6, 2) := dk_58 6 (dk_at dksX7_step_7 6 rfl rfl)
theorem dX7_step_170 : decode cX7_step 170 = .ok (.goto 13, 3) := dk_167 0 13 (dk_at dksX7_step_7 8 rfl rfl)
theorem dX7_step_173 : decode cX7_step 173 = .ok (.aload_n 0, 1) := dk_42 (dk_at dksX7_step_7 11 rfl rfl)
theorem dX7_step_174 : decode cX7_step 174 = .ok (.aload_n 0, 1) := dk_42 (dk_at dksX7_step_7 12 rfl rfl)
theorem dX7_step_175 : decode cX7_step 175 = .ok (.getfield 21, 3) := dk_180 0 21 (dk_at dksX7_step_7 13 rfl rfl)
theorem dX7_step_178 : decode cX7_step 178 = .ok (.invokevirtual 205, 3) := dk_182 0 205 (dk_at dksX7_step_7 16 rfl rfl)
theorem dX7_step_181 : decode cX7_step 181 = .ok (.istore 4, 2) := dk_54 4 (dk_at dksX7_step_7 19 rfl rfl)
theorem dX7_step_183 : decode cX7_step 183 = .ok (.aload_n 0, 1) := dk_42 (dk_at dksX7_step_7 21 rfl rfl)
theorem dX7_step_184 : decode cX7_step 184 = .ok (.getfield 12, 3) := dk_180 0 12 (dk_at dksX7_step_8 0 rfl rfl)
theorem dX7_step_187 : decode cX7_step 187 = .ok (.getfield 232, 3) := dk_180 0 232 (dk_at dksX7_step_8 3 rfl rfl)
theorem dX7_step_190 : decode cX7_step 190 = .ok (.new 245, 3) := dk_187 0 245 (dk_at dksX7_step_8 6 rfl rfl)
theorem dX7_step_193 : decode cX7_step 193 = .ok (.dup, 1) := dk_89 (dk_at dksX7_step_8 9 rfl rfl)
theorem dX7_step_194 : decode cX7_step 194 = .ok (.aload_n 2, 1) := dk_44 (dk_at dksX7_step_8 10 rfl rfl)
theorem dX7_step_195 : decode cX7_step 195 = .ok (.iload_n 3, 1) := dk_29 (dk_at dksX7_step_8 11 rfl rfl)
theorem dX7_step_196 : decode cX7_step 196 = .ok (.iload 4, 2) := dk_21 4 (dk_at dksX7_step_8 12 rfl rfl)
theorem dX7_step_198 : decode cX7_step 198 = .ok (.aload 5, 2) := dk_25 5 (dk_at dksX7_step_8 14 rfl rfl)
theorem dX7_step_200 : decode cX7_step 200 = .ok (.aload 6, 2) := dk_25 6 (dk_at dksX7_step_8 16 rfl rfl)
theorem dX7_step_202 : decode cX7_step 202 = .ok (.aload_n 0, 1) := dk_42 (dk_at dksX7_step_8 18 rfl rfl)
theorem dX7_step_203 : decode cX7_step 203 = .ok (.ldc 247, 2) := dk_18 247 (dk_at dksX7_step_8 19 rfl rfl)
theorem dX7_step_205 : decode cX7_step 205 = .ok (.invokevirtual 58, 3) := dk_182 0 58 (dk_at dksX7_step_8 21 rfl rfl)
theorem dX7_step_208 : decode cX7_step 208 = .ok (.ifCond .eq 10, 3) := dk_153 0 10 (dk_at dksX7_step_9 0 rfl rfl)
theorem dX7_step_211 : decode cX7_step 211 = .ok (.aload_n 0, 1) := dk_42 (dk_at dksX7_step_9 3 rfl rfl)
theorem dX7_step_212 : decode cX7_step 212 = .ok (.invokevirtual 249, 3) := dk_182 0 249 (dk_at dksX7_step_9 4 rfl rfl)
theorem dX7_step_215 : decode cX7_step 215 = .ok (.goto 6, 3) := dk_167 0 6 (dk_at dksX7_step_9 7 rfl rfl)
theorem dX7_step_218 : decode cX7_step 218 = .ok (.invokestatic 253, 3) := dk_184 0 253 (dk_at dksX7_step_9 10 rfl rfl)
theorem dX7_step_221 : decode cX7_step 221 = .ok (.invokespecial 258, 3) := dk_183 1 2 (dk_at dksX7_step_9 13 rfl rfl)
theorem dX7_step_224 : decode cX7_step 224 = .ok (.invokevirtual 202, 3) := dk_182 0 202 (dk_at dksX7_step_9 16 rfl rfl)
theorem dX7_step_227 : decode cX7_step 227 = .ok (.pop, 1) := dk_87 (dk_at dksX7_step_9 19 rfl rfl)
theorem dX7_step_228 : decode cX7_step 228 = .ok (.return_, 1) := dk_177 (dk_at dksX7_step_9 20 rfl rfl)
abbrev cX7_test : ByteArray := prog_15_method_20_code
def yX7_test : MethodName := ⟨RX7, "test", "()LGridTable$Test;"⟩
def dkwX7_test_1 : List UInt8 := [19, 1, 16, 182, 0, 58, 154, 255, 237, 43, 176]
abbrev dktX7_test_1 : List UInt8 := dkwX7_test_1 ++ []
def dkwX7_test_0 : List UInt8 := [187, 1, 5, 89, 3, 183, 1, 7, 76, 43, 180, 1, 10, 42, 182, 1, 13, 182, 0, 202, 87, 42]
abbrev dktX7_test_0 : List UInt8 := dkwX7_test_0 ++ dktX7_test_1
theorem dksX7_test_0 : cX7_test.data.toList.drop 0 = dktX7_test_0 := by decide +kernel
theorem dksX7_test_1 : cX7_test.data.toList.drop 22 = dktX7_test_1 := dk_seg dksX7_test_0 22 rfl rfl
theorem dX7_test_0 : decode cX7_test 0 = .ok (.new 261, 3) := dk_187 1 5 (dk_at dksX7_test_0 0 rfl rfl)
theorem dX7_test_3 : decode cX7_test 3 = .ok (.dup, 1) := dk_89 (dk_at dksX7_test_0 3 rfl rfl)
theorem dX7_test_4 : decode cX7_test 4 = .ok (.iconst 0, 1) := dk_3 (dk_at dksX7_test_0 4 rfl rfl)
theorem dX7_test_5 : decode cX7_test 5 = .ok (.invokespecial 263, 3) := dk_183 1 7 (dk_at dksX7_test_0 5 rfl rfl)
theorem dX7_test_8 : decode cX7_test 8 = .ok (.astore_n 1, 1) := dk_76 (dk_at dksX7_test_0 8 rfl rfl)
theorem dX7_test_9 : decode cX7_test 9 = .ok (.aload_n 1, 1) := dk_43 (dk_at dksX7_test_0 9 rfl rfl)
theorem dX7_test_10 : decode cX7_test 10 = .ok (.getfield 266, 3) := dk_180 1 10 (dk_at dksX7_test_0 10 rfl rfl)
theorem dX7_test_13 : decode cX7_test 13 = .ok (.aload_n 0, 1) := dk_42 (dk_at dksX7_test_0 13 rfl rfl)
theorem dX7_test_14 : decode cX7_test 14 = .ok (.invokevirtual 269, 3) := dk_182 1 13 (dk_at dksX7_test_0 14 rfl rfl)
theorem dX7_test_17 : decode cX7_test 17 = .ok (.invokevirtual 202, 3) := dk_182 0 202 (dk_at dksX7_test_0 17 rfl rfl)
theorem dX7_test_20 : decode cX7_test 20 = .ok (.pop, 1) := dk_87 (dk_at dksX7_test_0 20 rfl rfl)
theorem dX7_test_21 : decode cX7_test 21 = .ok (.aload_n 0, 1) := dk_42 (dk_at dksX7_test_0 21 rfl rfl)
theorem dX7_test_22 : decode cX7_test 22 = .ok (.ldc_w 272, 3) := dk_19 1 16 (dk_at dksX7_test_1 0 rfl rfl)
theorem dX7_test_25 : decode cX7_test 25 = .ok (.invokevirtual 58, 3) := dk_182 0 58 (dk_at dksX7_test_1 3 rfl rfl)
theorem dX7_test_28 : decode cX7_test 28 = .ok (.ifCond .ne (-19), 3) := dk_154 255 237 (dk_at dksX7_test_1 6 rfl rfl)
theorem dX7_test_31 : decode cX7_test 31 = .ok (.aload_n 1, 1) := dk_43 (dk_at dksX7_test_1 9 rfl rfl)
theorem dX7_test_32 : decode cX7_test 32 = .ok (.areturn, 1) := dk_176 (dk_at dksX7_test_1 10 rfl rfl)
abbrev cX7_both : ByteArray := prog_15_method_21_code
def yX7_both : MethodName := ⟨RX7, "both", "()LGridTable$Test;"⟩
def dkwX7_both_1 : List UInt8 := [19, 1, 21, 182, 0, 58, 154, 255, 237, 43, 176]
abbrev dktX7_both_1 : List UInt8 := dkwX7_both_1 ++ []
def dkwX7_both_0 : List UInt8 := [187, 1, 5, 89, 4, 183, 1, 7, 76, 43, 180, 1, 10, 42, 182, 1, 18, 182, 0, 202, 87, 42]
abbrev dktX7_both_0 : List UInt8 := dkwX7_both_0 ++ dktX7_both_1
theorem dksX7_both_0 : cX7_both.data.toList.drop 0 = dktX7_both_0 := by decide +kernel
theorem dksX7_both_1 : cX7_both.data.toList.drop 22 = dktX7_both_1 := dk_seg dksX7_both_0 22 rfl rfl
theorem dX7_both_0 : decode cX7_both 0 = .ok (.new 261, 3) := dk_187 1 5 (dk_at dksX7_both_0 0 rfl rfl)
theorem dX7_both_3 : decode cX7_both 3 = .ok (.dup, 1) := dk_89 (dk_at dksX7_both_0 3 rfl rfl)
theorem dX7_both_4 : decode cX7_both 4 = .ok (.iconst 1, 1) := dk_4 (dk_at dksX7_both_0 4 rfl rfl)
theorem dX7_both_5 : decode cX7_both 5 = .ok (.invokespecial 263, 3) := dk_183 1 7 (dk_at dksX7_both_0 5 rfl rfl)
theorem dX7_both_8 : decode cX7_both 8 = .ok (.astore_n 1, 1) := dk_76 (dk_at dksX7_both_0 8 rfl rfl)
theorem dX7_both_9 : decode cX7_both 9 = .ok (.aload_n 1, 1) := dk_43 (dk_at dksX7_both_0 9 rfl rfl)
theorem dX7_both_10 : decode cX7_both 10 = .ok (.getfield 266, 3) := dk_180 1 10 (dk_at dksX7_both_0 10 rfl rfl)
theorem dX7_both_13 : decode cX7_both 13 = .ok (.aload_n 0, 1) := dk_42 (dk_at dksX7_both_0 13 rfl rfl)
theorem dX7_both_14 : decode cX7_both 14 = .ok (.invokevirtual 274, 3) := dk_182 1 18 (dk_at dksX7_both_0 14 rfl rfl)
theorem dX7_both_17 : decode cX7_both 17 = .ok (.invokevirtual 202, 3) := dk_182 0 202 (dk_at dksX7_both_0 17 rfl rfl)
theorem dX7_both_20 : decode cX7_both 20 = .ok (.pop, 1) := dk_87 (dk_at dksX7_both_0 20 rfl rfl)
theorem dX7_both_21 : decode cX7_both 21 = .ok (.aload_n 0, 1) := dk_42 (dk_at dksX7_both_0 21 rfl rfl)
theorem dX7_both_22 : decode cX7_both 22 = .ok (.ldc_w 277, 3) := dk_19 1 21 (dk_at dksX7_both_1 0 rfl rfl)
theorem dX7_both_25 : decode cX7_both 25 = .ok (.invokevirtual 58, 3) := dk_182 0 58 (dk_at dksX7_both_1 3 rfl rfl)
theorem dX7_both_28 : decode cX7_both 28 = .ok (.ifCond .ne (-19), 3) := dk_154 255 237 (dk_at dksX7_both_1 6 rfl rfl)
theorem dX7_both_31 : decode cX7_both 31 = .ok (.aload_n 1, 1) := dk_43 (dk_at dksX7_both_1 9 rfl rfl)
theorem dX7_both_32 : decode cX7_both 32 = .ok (.areturn, 1) := dk_176 (dk_at dksX7_both_1 10 rfl rfl)
abbrev cX7_single : ByteArray := prog_15_method_22_code
def yX7_single : MethodName := ⟨RX7, "single", "()LGridTable$Test;"⟩
def dkwX7_single_7 : List UInt8 := [96, 181, 0, 32, 187, 1, 60, 89, 44, 180, 0, 91, 43, 42, 182, 0, 160, 183, 1, 62, 176]
abbrev dktX7_single_7 : List UInt8 := dkwX7_single_7 ++ []
def dkwX7_single_6 : List UInt8 := [180, 0, 91, 3, 182, 1, 50, 182, 1, 56, 156, 0, 8, 42, 182, 0, 61, 191, 42, 89, 180, 0, 32, 4]
abbrev dktX7_single_6 : List UInt8 := dkwX7_single_6 ++ dktX7_single_7
def dkwX7_single_5 : List UInt8 := [182, 0, 160, 76, 42, 182, 0, 46, 77, 44, 180, 0, 65, 178, 1, 45, 166, 0, 20, 19, 1, 48, 44]
abbrev dktX7_single_5 : List UInt8 := dkwX7_single_5 ++ dktX7_single_6
def dkwX7_single_4 : List UInt8 := [182, 0, 205, 60, 187, 1, 42, 89, 27, 42, 42, 180, 0, 25, 182, 0, 205, 183, 1, 44, 176, 42]
abbrev dktX7_single_4 : List UInt8 := dkwX7_single_4 ++ dktX7_single_5
def dkwX7_single_3 : List UInt8 := [19, 1, 35, 182, 1, 37, 43, 176, 42, 19, 1, 40, 182, 0, 58, 153, 0, 29, 42, 42, 180, 0, 21]
abbrev dktX7_single_3 : List UInt8 := dkwX7_single_3 ++ dktX7_single_4
def dkwX7_single_2 : List UInt8 := [19, 1, 33, 182, 0, 54, 153, 0, 24, 42, 19, 1, 33, 182, 1, 25, 42, 182, 0, 249, 76, 42]
abbrev dktX7_single_2 : List UInt8 := dkwX7_single_2 ++ dktX7_single_3
def dkwX7_single_1 : List UInt8 := [42, 182, 1, 18, 183, 1, 30, 76, 42, 89, 180, 0, 69, 4, 100, 181, 0, 69, 43, 176, 42, 182, 0, 46]
abbrev dktX7_single_1 : List UInt8 := dkwX7_single_1 ++ dktX7_single_2
def dkwX7_single_0 : List UInt8 := [42, 182, 0, 46, 19, 1, 23, 182, 0, 54, 153, 0, 34, 42, 19, 1, 23, 182, 1, 25, 187, 1, 28, 89]
abbrev dktX7_single_0 : List UInt8 := dkwX7_single_0 ++ dktX7_single_1
theorem dksX7_single_0 : cX7_single.data.toList.drop 0 = dktX7_single_0 := by decide +kernel
theorem dksX7_single_1 : cX7_single.data.toList.drop 24 = dktX7_single_1 := dk_seg dksX7_single_0 24 rfl rfl
theorem dksX7_single_2 : cX7_single.data.toList.drop 48 = dktX7_single_2 := dk_seg dksX7_single_1 24 rfl rfl
theorem dksX7_single_3 : cX7_single.data.toList.drop 70 = dktX7_single_3 := dk_seg dksX7_single_2 22 rfl rfl
theorem dksX7_single_4 : cX7_single.data.toList.drop 93 = dktX7_single_4 := dk_seg dksX7_single_3 23 rfl rfl
theorem dksX7_single_5 : cX7_single.data.toList.drop 115 = dktX7_single_5 := dk_seg dksX7_single_4 22 rfl rfl
theorem dksX7_single_6 : cX7_single.data.toList.drop 138 = dktX7_single_6 := dk_seg dksX7_single_5 23 rfl rfl
theorem dksX7_single_7 : cX7_single.data.toList.drop 162 = dktX7_single_7 := dk_seg dksX7_single_6 24 rfl rfl
theorem dX7_single_0 : decode cX7_single 0 = .ok (.aload_n 0, 1) := dk_42 (dk_at dksX7_single_0 0 rfl rfl)
theorem dX7_single_1 : decode cX7_single 1 = .ok (.invokevirtual 46, 3) := dk_182 0 46 (dk_at dksX7_single_0 1 rfl rfl)
theorem dX7_single_4 : decode cX7_single 4 = .ok (.ldc_w 279, 3) := dk_19 1 23 (dk_at dksX7_single_0 4 rfl rfl)
theorem dX7_single_7 : decode cX7_single 7 = .ok (.invokevirtual 54, 3) := dk_182 0 54 (dk_at dksX7_single_0 7 rfl rfl)
theorem dX7_single_10 : decode cX7_single 10 = .ok (.ifCond .eq 34, 3) := dk_153 0 34 (dk_at dksX7_single_0 10 rfl rfl)
theorem dX7_single_13 : decode cX7_single 13 = .ok (.aload_n 0, 1) := dk_42 (dk_at dksX7_single_0 13 rfl rfl)
theorem dX7_single_14 : decode cX7_single 14 = .ok (.ldc_w 279, 3) := dk_19 1 23 (dk_at dksX7_single_0 14 rfl rfl)
theorem dX7_single_17 : decode cX7_single 17 = .ok (.invokevirtual 281, 3) := dk_182 1 25 (dk_at dksX7_single_0 17 rfl rfl)
theorem dX7_single_20 : decode cX7_single 20 = .ok (.new 284, 3) := dk_187 1 28 (dk_at dksX7_single_0 20 rfl rfl)
theorem dX7_single_23 : decode cX7_single 23 = .ok (.dup, 1) := dk_89 (dk_at dksX7_single_0 23 rfl rfl)
theorem dX7_single_24 : decode cX7_single 24 = .ok (.aload_n 0, 1) := dk_42 (dk_at dksX7_single_1 0 rfl rfl)
theorem dX7_single_25 : decode cX7_single 25 = .ok (.invokevirtual 274, 3) := dk_182 1 18 (dk_at dksX7_single_1 1 rfl rfl)
theorem dX7_single_28 : decode cX7_single 28 = .ok (.invokespecial 286, 3) := dk_183 1 30 (dk_at dksX7_single_1 4 rfl rfl)
theorem dX7_single_31 : decode cX7_single 31 = .ok (.astore_n 1, 1) := dk_76 (dk_at dksX7_single_1 7 rfl rfl)
theorem dX7_single_32 : decode cX7_single 32 = .ok (.aload_n 0, 1) := dk_42 (dk_at dksX7_single_1 8 rfl rfl)
theorem dX7_single_33 : decode cX7_single 33 = .ok (.dup, 1) := dk_89 (dk_at dksX7_single_1 9 rfl rfl)
theorem dX7_single_34 : decode cX7_single 34 = .ok (.getfield 69, 3) := dk_180 0 69 (dk_at dksX7_single_1 10 rfl rfl)
theorem dX7_single_37 : decode cX7_single 37 = .ok (.iconst 1, 1) := dk_4 (dk_at dksX7_single_1 13 rfl rfl)
theorem dX7_single_38 : decode cX7_single 38 = .ok (.isub, 1) := dk_100 (dk_at dksX7_single_1 14 rfl rfl)
theorem dX7_single_39 : decode cX7_single 39 = .ok (.putfield 69, 3) := dk_181 0 69 (dk_at dksX7_single_1 15 rfl rfl)
theorem dX7_single_42 : decode cX7_single 42 = .ok (.aload_n 1, 1) := dk_43 (dk_at dksX7_single_1 18 rfl rfl)
theorem dX7_single_43 : decode cX7_single 43 = .ok (.areturn, 1) := dk_176 (dk_at dksX7_single_1 19 rfl rfl)
theorem dX7_single_44 : decode cX7_single 44 = .ok (.aload_n 0, 1) := dk_42 (dk_at dksX7_single_1 20 rfl rfl)
theorem dX7_single_45 : decode cX7_single 45 = .ok (.invokevirtual 46, 3) := dk_182 0 46 (dk_at dksX7_single_1 21 rfl rfl)
theorem dX7_single_48 : decode cX7_single 48 = .ok (.ldc_w 289, 3) := dk_19 1 33 (dk_at dksX7_single_2 0 rfl rfl)
theorem dX7_single_51 : decode cX7_single 51 = .ok (.invokevirtual 54, 3) := dk_182 0 54 (dk_at dksX7_single_2 3 rfl rfl)
theorem dX7_single_54 : decode cX7_single 54 = .ok (.ifCond .eq 24, 3) := dk_153 0 24 (dk_at dksX7_single_2 6 rfl rfl)
theorem dX7_single_57 : decode cX7_single 57 = .ok (.aload_n 0, 1) := dk_42 (dk_at dksX7_single_2 9 rfl rfl)
theorem dX7_single_58 : decode cX7_single 58 = .ok (.ldc_w 289, 3) := dk_19 1 33 (dk_at dksX7_single_2 10 rfl rfl)
theorem dX7_single_61 : decode cX7_single 61 = .ok (.invokevirtual 281, 3) := dk_182 1 25 (dk_at dksX7_single_2 13 rfl rfl)
theorem dX7_single_64 : decode cX7_single 64 = .ok (.aload_n 0, 1) := dk_42 (dk_at dksX7_single_2 16 rfl rfl)
theorem dX7_single_65 : decode cX7_single 65 = .ok (.invokevirtual 249, 3) := dk_182 0 249 (dk_at dksX7_single_2 17 rfl rfl)
theorem dX7_single_68 : decode cX7_single 68 = .ok (.astore_n 1, 1) := dk_76 (dk_at dksX7_single_2 20 rfl rfl)
theorem dX7_single_69 : decode cX7_single 69 = .ok (.aload_n 0, 1) := dk_42 (dk_at dksX7_single_2 21 rfl rfl)
theorem dX7_single_70 : decode cX7_single 70 = .ok (.ldc_w 291, 3) := dk_19 1 35 (dk_at dksX7_single_3 0 rfl rfl)
theorem dX7_single_73 : decode cX7_single 73 = .ok (.invokevirtual 293, 3) := dk_182 1 37 (dk_at dksX7_single_3 3 rfl rfl)
theorem dX7_single_76 : decode cX7_single 76 = .ok (.aload_n 1, 1) := dk_43 (dk_at dksX7_single_3 6 rfl rfl)
theorem dX7_single_77 : decode cX7_single 77 = .ok (.areturn, 1) := dk_176 (dk_at dksX7_single_3 7 rfl rfl)
theorem dX7_single_78 : decode cX7_single 78 = .ok (.aload_n 0, 1) := dk_42 (dk_at dksX7_single_3 8 rfl rfl)
theorem dX7_single_79 : decode cX7_single 79 = .ok (.ldc_w 296, 3) := dk_19 1 40 (dk_at dksX7_single_3 9 rfl rfl)
theorem dX7_single_82 : decode cX7_single 82 = .ok (.invokevirtual 58, 3) := dk_182 0 58 (dk_at dksX7_single_3 12 rfl rfl)
theorem dX7_single_85 : decode cX7_single 85 = .ok (.ifCond .eq 29, 3) := dk_153 0 29 (dk_at dksX7_single_3 15 rfl rfl)
theorem dX7_single_88 : decode cX7_single 88 = .ok (.aload_n 0, 1) := dk_42 (dk_at dksX7_single_3 18 rfl rfl)
theorem dX7_single_89 : decode cX7_single 89 = .ok (.aload_n 0, 1) := dk_42 (dk_at dksX7_single_3 19 rfl rfl)
theorem dX7_single_90 : decode cX7_single 90 = .ok (.getfield 21, 3) := dk_180 0 21 (dk_at dksX7_single_3 20 rfl rfl)
theorem dX7_single_93 : decode cX7_single 93 = .ok (.invokevirtual 205, 3) := dk_182 0 205 (dk_at dksX7_single_4 0 rfl rfl)
theorem dX7_single_96 : decode cX7_single 96 = .ok (.istore_n 1, 1) := dk_60 (dk_at dksX7_single_4 3 rfl rfl)
theorem dX7_single_97 : decode cX7_single 97 = .ok (.new 298, 3) := dk_187 1 42 (dk_at dksX7_single_4 4 rfl rfl)
theorem dX7_single_100 : decode cX7_single 100 = .ok (.dup, 1) := dk_89 (dk_at dksX7_single_4 7 rfl rfl)
theorem dX7_single_101 : decode cX7_single 101 = .ok (.iload_n 1, 1) := dk_27 (dk_at dksX7_single_4 8 rfl rfl)
theorem dX7_single_102 : decode cX7_single 102 = .ok (.aload_n 0, 1) := dk_42 (dk_at dksX7_single_4 9 rfl rfl)
theorem dX7_single_103 : decode cX7_single 103 = .ok (.aload_n 0, 1) := dk_42 (dk_at dksX7_single_4 10 rfl rfl)
theorem dX7_single_104 : decode cX7_single 104 = .ok (.getfield 25, 3) := dk_180 0 25 (dk_at dksX7_single_4 11 rfl rfl)
theorem dX7_single_107 : decode cX7_single 107 = .ok (.invokevirtual 205, 3) := dk_182 0 205 (dk_at dksX7_single_4 14 rfl rfl)
theorem dX7_single_110 : decode cX7_single 110 = .ok (.invokespecial 300, 3) := dk_183 1 44 (dk_at dksX7_single_4 17 rfl rfl)
theorem dX7_single_113 : decode cX7_single 113 = .ok (.areturn, 1) := dk_176 (dk_at dksX7_single_4 20 rfl rfl)
theorem dX7_single_114 : decode cX7_single 114 = .ok (.aload_n 0, 1) := dk_42 (dk_at dksX7_single_4 21 rfl rfl)
theorem dX7_single_115 : decode cX7_single 115 = .ok (.invokevirtual 160, 3) := dk_182 0 160 (dk_at dksX7_single_5 0 rfl rfl)
theorem dX7_single_118 : decode cX7_single 118 = .ok (.astore_n 1, 1) := dk_76 (dk_at dksX7_single_5 3 rfl rfl)
theorem dX7_single_119 : decode cX7_single 119 = .ok (.aload_n 0, 1) := dk_42 (dk_at dksX7_single_5 4 rfl rfl)
theorem dX7_single_120 : decode cX7_single 120 = .ok (.invokevirtual 46, 3) := dk_182 0 46 (dk_at dksX7_single_5 5 rfl rfl)
theorem dX7_single_123 : decode cX7_single 123 = .ok (.astore_n 2, 1) := dk_77 (dk_at dksX7_single_5 8 rfl rfl)
theorem dX7_single_124 : decode cX7_single 124 = .ok (.aload_n 2, 1) := dk_44 (dk_at dksX7_single_5 9 rfl rfl)
theorem dX7_single_125 : decode cX7_single 125 = .ok (.getfield 65, 3) := dk_180 0 65 (dk_at dksX7_single_5 10 rfl rfl)
theorem dX7_single_128 : decode cX7_single 128 = .ok (.getstatic 301, 3) := dk_178 1 45 (dk_at dksX7_single_5 13 rfl rfl)
theorem dX7_single_131 : decode cX7_single 131 = .ok (.if_acmp .ne 20, 3) := dk_166 0 20 (dk_at dksX7_single_5 16 rfl rfl)
theorem dX7_single_134 : decode cX7_single 134 = .ok (.ldc_w 304, 3) := dk_19 1 48 (dk_at dksX7_single_5 19 rfl rfl)
theorem dX7_single_137 : decode cX7_single 137 = .ok (.aload_n 2, 1) := dk_44 (dk_at dksX7_single_5 22 rfl rfl)
theorem dX7_single_138 : decode cX7_single 138 = .ok (.getfield 91, 3) := dk_180 0 91 (dk_at dksX7_single_6 0 rfl rfl)
theorem dX7_single_141 : decode cX7_single 141 = .ok (.iconst 0, 1) := dk_3 (dk_at dksX7_single_6 3 rfl rfl)
theorem dX7_single_142 : decode cX7_single 142 = .ok (.invokevirtual 306, 3) := dk_182 1 50 (dk_at dksX7_single_6 4 rfl rfl)
theorem dX7_single_145 : decode cX7_single 145 = .ok (.invokevirtual 312, 3) := dk_182 1 56 (dk_at dksX7_single_6 7 rfl rfl)
theorem dX7_single_148 : decode cX7_single 148 = .ok (.ifCond .ge 8, 3) := dk_156 0 8 (dk_at dksX7_single_6 10 rfl rfl)
theorem dX7_single_151 : decode cX7_single 151 = .ok (.aload_n 0, 1) := dk_42 (dk_at dksX7_single_6 13 rfl rfl)
theorem dX7_single_152 : decode cX7_single 152 = .ok (.invokevirtual 61, 3) := dk_182 0 61 (dk_at dksX7_single_6 14 rfl rfl)
theorem dX7_single_155 : decode cX7_single 155 = .ok (.athrow, 1) := dk_191 (dk_at dksX7_single_6 17 rfl rfl)
theorem dX7_single_156 : decode cX7_single 156 = .ok (.aload_n 0, 1) := dk_42 (dk_at dksX7_single_6 18 rfl rfl)
theorem dX7_single_157 : decode cX7_single 157 = .ok (.dup, 1) := dk_89 (dk_at dksX7_single_6 19 rfl rfl)
theorem dX7_single_158 : decode cX7_single 158 = .ok (.getfield 32, 3) := dk_180 0 32 (dk_at dksX7_single_6 20 rfl rfl)
theorem dX7_single_161 : decode cX7_single 161 = .ok (.iconst 1, 1) := dk_4 (dk_at dksX7_single_6 23 rfl rfl)
theorem dX7_single_162 : decode cX7_single 162 = .ok (.iadd, 1) := dk_96 (dk_at dksX7_single_7 0 rfl rfl)
theorem dX7_single_163 : decode cX7_single 163 = .ok (.putfield 32, 3) := dk_181 0 32 (dk_at dksX7_single_7 1 rfl rfl)
theorem dX7_single_166 : decode cX7_single 166 = .ok (.new 316, 3) := dk_187 1 60 (dk_at dksX7_single_7 4 rfl rfl)
theorem dX7_single_169 : decode cX7_single 169 = .ok (.dup, 1) := dk_89 (dk_at dksX7_single_7 7 rfl rfl)
theorem dX7_single_170 : decode cX7_single 170 = .ok (.aload_n 2, 1) := dk_44 (dk_at dksX7_single_7 8 rfl rfl)
theorem dX7_single_171 : decode cX7_single 171 = .ok (.getfield 91, 3) := dk_180 0 91 (dk_at dksX7_single_7 9 rfl rfl)
theorem dX7_single_174 : decode cX7_single 174 = .ok (.aload_n 1, 1) := dk_43 (dk_at dksX7_single_7 12 rfl rfl)
theorem dX7_single_175 : decode cX7_single 175 = .ok (.aload_n 0, 1) := dk_42 (dk_at dksX7_single_7 13 rfl rfl)
theorem dX7_single_176 : decode cX7_single 176 = .ok (.invokevirtual 160, 3) := dk_182 0 160 (dk_at dksX7_single_7 14 rfl rfl)
theorem dX7_single_179 : decode cX7_single 179 = .ok (.invokespecial 318, 3) := dk_183 1 62 (dk_at dksX7_single_7 17 rfl rfl)
theorem dX7_single_182 : decode cX7_single 182 = .ok (.areturn, 1) := dk_176 (dk_at dksX7_single_7 20 rfl rfl)
theorem q126 : (Jvm.Cond.initialized "GridTable$Reader") ∈ lw_all := lw_g (lw_at lw_m1 15 rfl) rfl
theorem q260 : (Jvm.Cond.fieldLinkNest "GridTable$Reader" (189 : Nat) "GridTable$Table" "shapes" "Ljava/util/ArrayList;" "GridTable") ∈ lw_tbl := lw_at lw_m1 149 rfl
theorem q263 : (Jvm.Cond.fieldLinkNest "GridTable$Reader" (232 : Nat) "GridTable$Table" "steps" "Ljava/util/ArrayList;" "GridTable") ∈ lw_tbl := lw_at lw_m1 152 rfl
theorem q270 : (Jvm.Cond.fieldLinkNest "GridTable$Reader" (166 : Nat) "GridTable$Table" "points" "I" "GridTable") ∈ lw_tbl := lw_at lw_m1 159 rfl
theorem q305 : (Jvm.Cond.instantiable "GridTable$Reader" (7 : Nat)) ∈ lw_all := lw_g (lw_at lw_m1 194 rfl) rfl
theorem q350 : (Jvm.Cond.fieldLinkNest "GridTable$Reader" (65 : Nat) "GridTable$Token" "sort" "LGridTable$Sort;" "GridTable") ∈ lw_tbl := lw_at lw_m1 239 rfl
theorem q354 : (Jvm.Cond.fieldLinkNest "GridTable$Reader" (91 : Nat) "GridTable$Token" "text" "Ljava/lang/String;" "GridTable") ∈ lw_tbl := lw_at lw_m2 3 rfl
theorem q356 : (Jvm.Cond.fieldLinkNest "GridTable$Reader" (50 : Nat) "GridTable$Token" "at" "I" "GridTable") ∈ lw_tbl := lw_at lw_m2 5 rfl
theorem q816 : (Jvm.Cond.selects "GridTable$Reader" ({ cls := "java/lang/Object", name := "getClass", desc := "()Ljava/lang/Class;" } : Jvm.MethodName) ({ cls := "java/lang/Object", name := "getClass", desc := "()Ljava/lang/Class;" } : Jvm.MethodName)) ∈ lw_all := lw_g (lw_at lw_m3 225 rfl) rfl
theorem q866 : (Jvm.Cond.instanceMethod ({ cls := "GridTable$Reader", name := "<init>", desc := "(Ljava/util/List;)V" } : Jvm.MethodName)) ∈ lw_all := lw_g (lw_at lw_m4 35 rfl) rfl
theorem q867 : (Jvm.Cond.code ({ cls := "GridTable$Reader", name := "<init>", desc := "(Ljava/util/List;)V" } : Jvm.MethodName) prog_15_method_1_code (2 : Nat) (Option.none : Option Jvm.ClassFile.FieldType)) ∈ lw_all := lw_g (lw_at lw_m4 36 rfl) rfl
theorem q868 : (Jvm.Cond.methodLink "GridTable$Reader" (3 : Nat) ({ cls := "java/lang/Object", name := "<init>", desc := "()V" } : Jvm.MethodName)) ∈ lw_all := lw_g (lw_at lw_m4 37 rfl) rfl
theorem q869 : (Jvm.Cond.classLink "GridTable$Reader" (9 : Nat) "GridTable$Table") ∈ lw_all := lw_g (lw_at lw_m4 38 rfl) rfl
theorem q870 : (Jvm.Cond.methodLinkNest "GridTable$Reader" (11 : Nat) ({ cls := "GridTable$Table", name := "<init>", desc := "()V" } : Jvm.MethodName) "GridTable") ∈ lw_tbl := lw_at lw_m4 39 rfl
theorem q871 : (Jvm.Cond.classLink "GridTable$Reader" (18 : Nat) "java/util/HashMap") ∈ lw_all := lw_g (lw_at lw_m4 40 rfl) rfl
theorem q873 : (Jvm.Cond.methodLink "GridTable$Reader" (20 : Nat) ({ cls := "java/util/HashMap", name := "<init>", desc := "()V" } : Jvm.MethodName)) ∈ lw_all := lw_g (lw_at lw_m4 42 rfl) rfl
theorem q903 : (Jvm.Cond.fieldLink "GridTable$Reader" (28 : Nat) "GridTable$Reader" "tokens" "Ljava/util/List;") ∈ lw_all := lw_g (lw_at lw_m4 72 rfl) rfl
theorem q904 : (Jvm.Cond.fieldLink "GridTable$Reader" (32 : Nat) "GridTable$Reader" "at" "I") ∈ lw_all := lw_g (lw_at lw_m4 73 rfl) rfl
theorem q905 : (Jvm.Cond.fieldLink "GridTable$Reader" (69 : Nat) "GridTable$Reader" "depth" "I") ∈ lw_all := lw_g (lw_at lw_m4 74 rfl) rfl
theorem q906 : (Jvm.Cond.fieldLink "GridTable$Reader" (79 : Nat) "GridTable$Reader" "isSecond" "Z") ∈ lw_all := lw_g (lw_at lw_m4 75 rfl) rfl
theorem q907 : (Jvm.Cond.fieldLink "GridTable$Reader" (12 : Nat) "GridTable$Reader" "table" "LGridTable$Table;") ∈ lw_all := lw_g (lw_at lw_m4 76 rfl) rfl
theorem q908 : (Jvm.Cond.fieldLink "GridTable$Reader" (21 : Nat) "GridTable$Reader" "points" "Ljava/util/HashMap;") ∈ lw_all := lw_g (lw_at lw_m4 77 rfl) rfl
theorem q909 : (Jvm.Cond.fieldLink "GridTable$Reader" (25 : Nat) "GridTable$Reader" "shapes" "Ljava/util/HashMap;") ∈ lw_all := lw_g (lw_at lw_m4 78 rfl) rfl
theorem q910 : (Jvm.Cond.laysFinal "GridTable$Reader" "GridTable$Reader" "tokens" "Ljava/util/List;") ∈ lw_all := lw_g (lw_at lw_m4 79 rfl) rfl
theorem q911 : (Jvm.Cond.soleField "GridTable$Reader" "tokens") ∈ lw_all := lw_g (lw_at lw_m4 80 rfl) rfl
theorem q912 : (Jvm.Cond.lays "GridTable$Reader" "GridTable$Reader" "at" "I") ∈ lw_all := lw_g (lw_at lw_m4 81 rfl) rfl
theorem q913 : (Jvm.Cond.soleField "GridTable$Reader" "at") ∈ lw_all := lw_g (lw_at lw_m4 82 rfl) rfl
theorem q914 : (Jvm.Cond.lays "GridTable$Reader" "GridTable$Reader" "depth" "I") ∈ lw_all := lw_g (lw_at lw_m4 83 rfl) rfl
theorem q915 : (Jvm.Cond.soleField "GridTable$Reader" "depth") ∈ lw_all := lw_g (lw_at lw_m4 84 rfl) rfl
theorem q916 : (Jvm.Cond.lays "GridTable$Reader" "GridTable$Reader" "isSecond" "Z") ∈ lw_all := lw_g (lw_at lw_m4 85 rfl) rfl
theorem q917 : (Jvm.Cond.soleField "GridTable$Reader" "isSecond") ∈ lw_all := lw_g (lw_at lw_m4 86 rfl) rfl
theorem q918 : (Jvm.Cond.lays "GridTable$Reader" "GridTable$Reader" "table" "LGridTable$Table;") ∈ lw_all := lw_g (lw_at lw_m4 87 rfl) rfl
theorem q919 : (Jvm.Cond.soleField "GridTable$Reader" "table") ∈ lw_all := lw_g (lw_at lw_m4 88 rfl) rfl
theorem q920 : (Jvm.Cond.laysFinal "GridTable$Reader" "GridTable$Reader" "points" "Ljava/util/HashMap;") ∈ lw_all := lw_g (lw_at lw_m4 89 rfl) rfl
theorem q921 : (Jvm.Cond.soleField "GridTable$Reader" "points") ∈ lw_all := lw_g (lw_at lw_m4 90 rfl) rfl
theorem q922 : (Jvm.Cond.laysFinal "GridTable$Reader" "GridTable$Reader" "shapes" "Ljava/util/HashMap;") ∈ lw_all := lw_g (lw_at lw_m4 91 rfl) rfl
theorem q923 : (Jvm.Cond.soleField "GridTable$Reader" "shapes") ∈ lw_all := lw_g (lw_at lw_m4 92 rfl) rfl
theorem q924 : (Jvm.Cond.superclass "GridTable$Reader" "java/lang/Object") ∈ lw_all := lw_g (lw_at lw_m4 93 rfl) rfl
theorem q926 : (Jvm.Cond.instanceMethod ({ cls := "GridTable$Reader", name := "read", desc := "()LGridTable$Table;" } : Jvm.MethodName)) ∈ lw_all := lw_g (lw_at lw_m4 95 rfl) rfl
theorem q927 : (Jvm.Cond.selects "GridTable$Reader" ({ cls := "GridTable$Reader", name := "read", desc := "()LGridTable$Table;" } : Jvm.MethodName) ({ cls := "GridTable$Reader", name := "read", desc := "()LGridTable$Table;" } : Jvm.MethodName)) ∈ lw_all := lw_g (lw_at lw_m4 96 rfl) rfl
theorem q928 : (Jvm.Cond.code ({ cls := "GridTable$Reader", name := "read", desc := "()LGridTable$Table;" } : Jvm.MethodName) prog_15_method_9_code (1 : Nat) (Option.some (Jvm.ClassFile.FieldType.object "GridTable$Table"))) ∈ lw_all := lw_g (lw_at lw_m4 97 rfl) rfl
theorem q929 : (Jvm.Cond.methodLink "GridTable$Reader" (76 : Nat) ({ cls := "GridTable$Reader", name := "list", desc := "()V" } : Jvm.MethodName)) ∈ lw_all := lw_g (lw_at lw_m4 98 rfl) rfl
theorem q930 : (Jvm.Cond.privateMethod ({ cls := "GridTable$Reader", name := "list", desc := "()V" } : Jvm.MethodName)) ∈ lw_tbl := lw_at lw_m4 99 rfl
theorem q931 : (Jvm.Cond.instanceMethod ({ cls := "GridTable$Reader", name := "list", desc := "()V" } : Jvm.MethodName)) ∈ lw_all := lw_g (lw_at lw_m4 100 rfl) rfl
theorem q932 : (Jvm.Cond.code ({ cls := "GridTable$Reader", name := "list", desc := "()V" } : Jvm.MethodName) prog_15_method_15_code (2 : Nat) (Option.none : Option Jvm.ClassFile.FieldType)) ∈ lw_all := lw_g (lw_at lw_m4 101 rfl) rfl
theorem q933 : (Jvm.Cond.methodLink "GridTable$Reader" (46 : Nat) ({ cls := "GridTable$Reader", name := "now", desc := "()LGridTable$Token;" } : Jvm.MethodName)) ∈ lw_all := lw_g (lw_at lw_m4 102 rfl) rfl
theorem q934 : (Jvm.Cond.privateMethod ({ cls := "GridTable$Reader", name := "now", desc := "()LGridTable$Token;" } : Jvm.MethodName)) ∈ lw_tbl := lw_at lw_m4 103 rfl
theorem q935 : (Jvm.Cond.instanceMethod ({ cls := "GridTable$Reader", name := "now", desc := "()LGridTable$Token;" } : Jvm.MethodName)) ∈ lw_all := lw_g (lw_at lw_m4 104 rfl) rfl
theorem q936 : (Jvm.Cond.code ({ cls := "GridTable$Reader", name := "now", desc := "()LGridTable$Token;" } : Jvm.MethodName) prog_15_method_2_code (1 : Nat) (Option.some (Jvm.ClassFile.FieldType.object "GridTable$Token"))) ∈ lw_all := lw_g (lw_at lw_m4 105 rfl) rfl
theorem q937 : (Jvm.Cond.interfaceEntry "GridTable$Reader" (36 : Nat)) ∈ lw_tbl := lw_at lw_m4 106 rfl
theorem q938 : (Jvm.Cond.methodLink "GridTable$Reader" (36 : Nat) ({ cls := "java/util/List", name := "get", desc := "(I)Ljava/lang/Object;" } : Jvm.MethodName)) ∈ lw_all := lw_g (lw_at lw_m4 107 rfl) rfl
theorem q955 : (Jvm.Cond.classLink "GridTable$Reader" (42 : Nat) "GridTable$Token") ∈ lw_all := lw_g (lw_at lw_m4 124 rfl) rfl
theorem q956 : (Jvm.Cond.fieldLink "GridTable$Reader" (138 : Nat) "GridTable$Sort" "END" "LGridTable$Sort;") ∈ lw_all := lw_g (lw_at lw_m4 125 rfl) rfl
theorem q957 : (Jvm.Cond.stringRef "GridTable$Reader" (141 : Nat) "point") ∈ lw_tbl := lw_at lw_m4 126 rfl
theorem q958 : (Jvm.Cond.methodLink "GridTable$Reader" (58 : Nat) ({ cls := "GridTable$Reader", name := "takeIf", desc := "(Ljava/lang/String;)Z" } : Jvm.MethodName)) ∈ lw_all := lw_g (lw_at lw_m4 127 rfl) rfl
theorem q959 : (Jvm.Cond.privateMethod ({ cls := "GridTable$Reader", name := "takeIf", desc := "(Ljava/lang/String;)Z" } : Jvm.MethodName)) ∈ lw_tbl := lw_at lw_m4 128 rfl
theorem q960 : (Jvm.Cond.instanceMethod ({ cls := "GridTable$Reader", name := "takeIf", desc := "(Ljava/lang/String;)Z" } : Jvm.MethodName)) ∈ lw_all := lw_g (lw_at lw_m4 129 rfl) rfl
theorem q961 : (Jvm.Cond.code ({ cls := "GridTable$Reader", name := "takeIf", desc := "(Ljava/lang/String;)Z" } : Jvm.MethodName) prog_15_method_4_code (3 : Nat) (Option.some Jvm.ClassFile.FieldType.boolean)) ∈ lw_all := lw_g (lw_at lw_m4 130 rfl) rfl
theorem q962 : (Jvm.Cond.methodLink "GridTable$Reader" (54 : Nat) ({ cls := "GridTable$Token", name := "is", desc := "(Ljava/lang/String;)Z" } : Jvm.MethodName)) ∈ lw_all := lw_g (lw_at lw_m4 131 rfl) rfl
theorem q969 : (Jvm.Cond.methodLink "GridTable$Reader" (143 : Nat) ({ cls := "GridTable$Reader", name := "point", desc := "()V" } : Jvm.MethodName)) ∈ lw_all := lw_g (lw_at lw_m4 138 rfl) rfl
theorem q970 : (Jvm.Cond.privateMethod ({ cls := "GridTable$Reader", name := "point", desc := "()V" } : Jvm.MethodName)) ∈ lw_tbl := lw_at lw_m4 139 rfl
theorem q971 : (Jvm.Cond.instanceMethod ({ cls := "GridTable$Reader", name := "point", desc := "()V" } : Jvm.MethodName)) ∈ lw_all := lw_g (lw_at lw_m4 140 rfl) rfl
theorem q972 : (Jvm.Cond.code ({ cls := "GridTable$Reader", name := "point", desc := "()V" } : Jvm.MethodName) prog_15_method_16_code (4 : Nat) (Option.none : Option Jvm.ClassFile.FieldType)) ∈ lw_all := lw_g (lw_at lw_m4 141 rfl) rfl
theorem q973 : (Jvm.Cond.methodLink "GridTable$Reader" (155 : Nat) ({ cls := "GridTable$Reader", name := "name", desc := "(Ljava/util/HashMap;I)Ljava/lang/String;" } : Jvm.MethodName)) ∈ lw_all := lw_g (lw_at lw_m4 142 rfl) rfl
theorem q974 : (Jvm.Cond.privateMethod ({ cls := "GridTable$Reader", name := "name", desc := "(Ljava/util/HashMap;I)Ljava/lang/String;" } : Jvm.MethodName)) ∈ lw_tbl := lw_at lw_m4 143 rfl
theorem q975 : (Jvm.Cond.instanceMethod ({ cls := "GridTable$Reader", name := "name", desc := "(Ljava/util/HashMap;I)Ljava/lang/String;" } : Jvm.MethodName)) ∈ lw_all := lw_g (lw_at lw_m4 144 rfl) rfl
theorem q976 : (Jvm.Cond.code ({ cls := "GridTable$Reader", name := "name", desc := "(Ljava/util/HashMap;I)Ljava/lang/String;" } : Jvm.MethodName) prog_15_method_11_code (4 : Nat) (Option.some (Jvm.ClassFile.FieldType.object "java/lang/String"))) ∈ lw_all := lw_g (lw_at lw_m4 145 rfl) rfl
theorem q977 : (Jvm.Cond.fieldLink "GridTable$Reader" (83 : Nat) "GridTable$Sort" "NAME" "LGridTable$Sort;") ∈ lw_all := lw_g (lw_at lw_m4 146 rfl) rfl
theorem q978 : (Jvm.Cond.methodLink "GridTable$Reader" (88 : Nat) ({ cls := "GridTable$Reader", name := "take", desc := "(LGridTable$Sort;)LGridTable$Token;" } : Jvm.MethodName)) ∈ lw_all := lw_g (lw_at lw_m4 147 rfl) rfl
theorem q979 : (Jvm.Cond.privateMethod ({ cls := "GridTable$Reader", name := "take", desc := "(LGridTable$Sort;)LGridTable$Token;" } : Jvm.MethodName)) ∈ lw_tbl := lw_at lw_m4 148 rfl
theorem q980 : (Jvm.Cond.instanceMethod ({ cls := "GridTable$Reader", name := "take", desc := "(LGridTable$Sort;)LGridTable$Token;" } : Jvm.MethodName)) ∈ lw_all := lw_g (lw_at lw_m4 149 rfl) rfl
theorem q981 : (Jvm.Cond.code ({ cls := "GridTable$Reader", name := "take", desc := "(LGridTable$Sort;)LGridTable$Token;" } : Jvm.MethodName) prog_15_method_6_code (3 : Nat) (Option.some (Jvm.ClassFile.FieldType.object "GridTable$Token"))) ∈ lw_all := lw_g (lw_at lw_m4 150 rfl) rfl
theorem q982 : (Jvm.Cond.methodLink "GridTable$Reader" (61 : Nat) ({ cls := "GridTable$Reader", name := "wrong", desc := "()LGridTable$Fault;" } : Jvm.MethodName)) ∈ lw_all := lw_g (lw_at lw_m4 151 rfl) rfl
theorem q983 : (Jvm.Cond.privateMethod ({ cls := "GridTable$Reader", name := "wrong", desc := "()LGridTable$Fault;" } : Jvm.MethodName)) ∈ lw_tbl := lw_at lw_m4 152 rfl
theorem q984 : (Jvm.Cond.instanceMethod ({ cls := "GridTable$Reader", name := "wrong", desc := "()LGridTable$Fault;" } : Jvm.MethodName)) ∈ lw_all := lw_g (lw_at lw_m4 153 rfl) rfl
theorem q985 : (Jvm.Cond.code ({ cls := "GridTable$Reader", name := "wrong", desc := "()LGridTable$Fault;" } : Jvm.MethodName) prog_15_method_3_code (1 : Nat) (Option.some (Jvm.ClassFile.FieldType.object "GridTable$Fault"))) ∈ lw_all := lw_g (lw_at lw_m4 154 rfl) rfl
theorem q986 : (Jvm.Cond.classLink "GridTable$Reader" (44 : Nat) "GridTable$Fault") ∈ lw_all := lw_g (lw_at lw_m4 155 rfl) rfl
theorem q995 : (Jvm.Cond.methodLink "GridTable$Reader" (51 : Nat) ({ cls := "GridTable$Fault", name := "<init>", desc := "(II)V" } : Jvm.MethodName)) ∈ lw_all := lw_g (lw_at lw_m4 164 rfl) rfl
theorem q1012 : (Jvm.Cond.methodLink "GridTable$Reader" (95 : Nat) ({ cls := "java/util/HashMap", name := "containsKey", desc := "(Ljava/lang/Object;)Z" } : Jvm.MethodName)) ∈ lw_all := lw_g (lw_at lw_m4 181 rfl) rfl
theorem q1045 : (Jvm.Cond.selects "GridTable$Reader" ({ cls := "java/lang/Object", name := "hashCode", desc := "()I" } : Jvm.MethodName) ({ cls := "java/lang/Object", name := "hashCode", desc := "()I" } : Jvm.MethodName)) ∈ lw_all := lw_g (lw_at lw_m4 214 rfl) rfl
theorem q1157 : (Jvm.Cond.selects "GridTable$Reader" ({ cls := "java/lang/Object", name := "equals", desc := "(Ljava/lang/Object;)Z" } : Jvm.MethodName) ({ cls := "java/lang/Object", name := "equals", desc := "(Ljava/lang/Object;)Z" } : Jvm.MethodName)) ∈ lw_all := lw_g (lw_at lw_m5 86 rfl) rfl
theorem q1496 : (Jvm.Cond.methodLink "GridTable$Reader" (99 : Nat) ({ cls := "GridTable$Reader", name := "check", desc := "(IZLGridTable$Token;)V" } : Jvm.MethodName)) ∈ lw_all := lw_g (lw_at lw_m6 185 rfl) rfl
theorem q1497 : (Jvm.Cond.privateMethod ({ cls := "GridTable$Reader", name := "check", desc := "(IZLGridTable$Token;)V" } : Jvm.MethodName)) ∈ lw_tbl := lw_at lw_m6 186 rfl
theorem q1498 : (Jvm.Cond.instanceMethod ({ cls := "GridTable$Reader", name := "check", desc := "(IZLGridTable$Token;)V" } : Jvm.MethodName)) ∈ lw_all := lw_g (lw_at lw_m6 187 rfl) rfl
theorem q1499 : (Jvm.Cond.code ({ cls := "GridTable$Reader", name := "check", desc := "(IZLGridTable$Token;)V" } : Jvm.MethodName) prog_15_method_10_code (4 : Nat) (Option.none : Option Jvm.ClassFile.FieldType)) ∈ lw_all := lw_g (lw_at lw_m6 188 rfl) rfl
theorem q1500 : (Jvm.Cond.methodLink "GridTable$Reader" (103 : Nat) ({ cls := "java/util/HashMap", name := "size", desc := "()I" } : Jvm.MethodName)) ∈ lw_all := lw_g (lw_at lw_m6 189 rfl) rfl
theorem q1504 : (Jvm.Cond.stringRef "GridTable$Reader" (159 : Nat) "at") ∈ lw_tbl := lw_at lw_m6 193 rfl
theorem q1505 : (Jvm.Cond.methodLink "GridTable$Reader" (72 : Nat) ({ cls := "GridTable$Reader", name := "take", desc := "(Ljava/lang/String;)V" } : Jvm.MethodName)) ∈ lw_all := lw_g (lw_at lw_m6 194 rfl) rfl
theorem q1506 : (Jvm.Cond.privateMethod ({ cls := "GridTable$Reader", name := "take", desc := "(Ljava/lang/String;)V" } : Jvm.MethodName)) ∈ lw_tbl := lw_at lw_m6 195 rfl
theorem q1507 : (Jvm.Cond.instanceMethod ({ cls := "GridTable$Reader", name := "take", desc := "(Ljava/lang/String;)V" } : Jvm.MethodName)) ∈ lw_all := lw_g (lw_at lw_m6 196 rfl) rfl
theorem q1508 : (Jvm.Cond.code ({ cls := "GridTable$Reader", name := "take", desc := "(Ljava/lang/String;)V" } : Jvm.MethodName) prog_15_method_5_code (2 : Nat) (Option.none : Option Jvm.ClassFile.FieldType)) ∈ lw_all := lw_g (lw_at lw_m6 197 rfl) rfl
theorem q1509 : (Jvm.Cond.methodLink "GridTable$Reader" (160 : Nat) ({ cls := "GridTable$Reader", name := "sum", desc := "()LGridTable$Sum;" } : Jvm.MethodName)) ∈ lw_all := lw_g (lw_at lw_m6 198 rfl) rfl
theorem q1510 : (Jvm.Cond.privateMethod ({ cls := "GridTable$Reader", name := "sum", desc := "()LGridTable$Sum;" } : Jvm.MethodName)) ∈ lw_tbl := lw_at lw_m6 199 rfl
theorem q1511 : (Jvm.Cond.instanceMethod ({ cls := "GridTable$Reader", name := "sum", desc := "()LGridTable$Sum;" } : Jvm.MethodName)) ∈ lw_all := lw_g (lw_at lw_m6 200 rfl) rfl
theorem q1512 : (Jvm.Cond.code ({ cls := "GridTable$Reader", name := "sum", desc := "()LGridTable$Sum;" } : Jvm.MethodName) prog_15_method_23_code (3 : Nat) (Option.some (Jvm.ClassFile.FieldType.object "GridTable$Sum"))) ∈ lw_all := lw_g (lw_at lw_m6 201 rfl) rfl
theorem q1513 : (Jvm.Cond.methodLink "GridTable$Reader" (321 : Nat) ({ cls := "GridTable$Reader", name := "product", desc := "()LGridTable$Sum;" } : Jvm.MethodName)) ∈ lw_all := lw_g (lw_at lw_m6 202 rfl) rfl
theorem q1514 : (Jvm.Cond.privateMethod ({ cls := "GridTable$Reader", name := "product", desc := "()LGridTable$Sum;" } : Jvm.MethodName)) ∈ lw_tbl := lw_at lw_m6 203 rfl
theorem q1515 : (Jvm.Cond.instanceMethod ({ cls := "GridTable$Reader", name := "product", desc := "()LGridTable$Sum;" } : Jvm.MethodName)) ∈ lw_all := lw_g (lw_at lw_m6 204 rfl) rfl
theorem q1516 : (Jvm.Cond.code ({ cls := "GridTable$Reader", name := "product", desc := "()LGridTable$Sum;" } : Jvm.MethodName) prog_15_method_24_code (3 : Nat) (Option.some (Jvm.ClassFile.FieldType.object "GridTable$Sum"))) ∈ lw_all := lw_g (lw_at lw_m6 205 rfl) rfl
theorem q1517 : (Jvm.Cond.methodLink "GridTable$Reader" (342 : Nat) ({ cls := "GridTable$Reader", name := "value", desc := "()LGridTable$Sum;" } : Jvm.MethodName)) ∈ lw_all := lw_g (lw_at lw_m6 206 rfl) rfl
theorem q1518 : (Jvm.Cond.privateMethod ({ cls := "GridTable$Reader", name := "value", desc := "()LGridTable$Sum;" } : Jvm.MethodName)) ∈ lw_tbl := lw_at lw_m6 207 rfl
theorem q1519 : (Jvm.Cond.instanceMethod ({ cls := "GridTable$Reader", name := "value", desc := "()LGridTable$Sum;" } : Jvm.MethodName)) ∈ lw_all := lw_g (lw_at lw_m6 208 rfl) rfl
theorem q1520 : (Jvm.Cond.code ({ cls := "GridTable$Reader", name := "value", desc := "()LGridTable$Sum;" } : Jvm.MethodName) prog_15_method_26_code (5 : Nat) (Option.some (Jvm.ClassFile.FieldType.object "GridTable$Sum"))) ∈ lw_all := lw_g (lw_at lw_m6 209 rfl) rfl
theorem q1521 : (Jvm.Cond.fieldLink "GridTable$Reader" (132 : Nat) "GridTable$Sort" "NUMBER" "LGridTable$Sort;") ∈ lw_all := lw_g (lw_at lw_m6 210 rfl) rfl
theorem q1522 : (Jvm.Cond.classLink "GridTable$Reader" (364 : Nat) "GridTable$Plain") ∈ lw_all := lw_g (lw_at lw_m6 211 rfl) rfl
theorem q1524 : (Jvm.Cond.methodLink "GridTable$Reader" (135 : Nat) ({ cls := "GridTable$Token", name := "number", desc := "()I" } : Jvm.MethodName)) ∈ lw_all := lw_g (lw_at lw_m6 213 rfl) rfl
theorem q1540 : (Jvm.Cond.methodLink "GridTable$Reader" (366 : Nat) ({ cls := "GridTable$Plain", name := "<init>", desc := "(I)V" } : Jvm.MethodName)) ∈ lw_all := lw_g (lw_at lw_m6 229 rfl) rfl
theorem q1551 : (Jvm.Cond.stringRef "GridTable$Reader" (369 : Nat) "crosses") ∈ lw_tbl := lw_at lw_m7 0 rfl
theorem q1552 : (Jvm.Cond.methodLink "GridTable$Reader" (205 : Nat) ({ cls := "GridTable$Reader", name := "known", desc := "(Ljava/util/HashMap;)I" } : Jvm.MethodName)) ∈ lw_all := lw_g (lw_at lw_m7 1 rfl) rfl
theorem q1553 : (Jvm.Cond.privateMethod ({ cls := "GridTable$Reader", name := "known", desc := "(Ljava/util/HashMap;)I" } : Jvm.MethodName)) ∈ lw_tbl := lw_at lw_m7 2 rfl
theorem q1554 : (Jvm.Cond.instanceMethod ({ cls := "GridTable$Reader", name := "known", desc := "(Ljava/util/HashMap;)I" } : Jvm.MethodName)) ∈ lw_all := lw_g (lw_at lw_m7 3 rfl) rfl
theorem q1555 : (Jvm.Cond.code ({ cls := "GridTable$Reader", name := "known", desc := "(Ljava/util/HashMap;)I" } : Jvm.MethodName) prog_15_method_13_code (3 : Nat) (Option.some Jvm.ClassFile.FieldType.int)) ∈ lw_all := lw_g (lw_at lw_m7 4 rfl) rfl
theorem q1556 : (Jvm.Cond.methodLink "GridTable$Reader" (117 : Nat) ({ cls := "java/util/HashMap", name := "get", desc := "(Ljava/lang/Object;)Ljava/lang/Object;" } : Jvm.MethodName)) ∈ lw_all := lw_g (lw_at lw_m7 5 rfl) rfl
theorem q1560 : (Jvm.Cond.classLink "GridTable$Reader" (108 : Nat) "java/lang/Integer") ∈ lw_all := lw_g (lw_at lw_m7 9 rfl) rfl
theorem q1561 : (Jvm.Cond.methodLink "GridTable$Reader" (120 : Nat) ({ cls := "java/util/Optional", name := "ofNullable", desc := "(Ljava/lang/Object;)Ljava/util/Optional;" } : Jvm.MethodName)) ∈ lw_all := lw_g (lw_at lw_m7 10 rfl) rfl
theorem q1576 : (Jvm.Cond.methodLink "GridTable$Reader" (107 : Nat) ({ cls := "java/lang/Integer", name := "valueOf", desc := "(I)Ljava/lang/Integer;" } : Jvm.MethodName)) ∈ lw_all := lw_g (lw_at lw_m7 25 rfl) rfl
theorem q1595 : (Jvm.Cond.methodLink "GridTable$Reader" (126 : Nat) ({ cls := "java/util/Optional", name := "orElse", desc := "(Ljava/lang/Object;)Ljava/lang/Object;" } : Jvm.MethodName)) ∈ lw_all := lw_g (lw_at lw_m7 44 rfl) rfl
theorem q1599 : (Jvm.Cond.methodLink "GridTable$Reader" (129 : Nat) ({ cls := "java/lang/Integer", name := "intValue", desc := "()I" } : Jvm.MethodName)) ∈ lw_all := lw_g (lw_at lw_m7 48 rfl) rfl
theorem q1600 : (Jvm.Cond.classLink "GridTable$Reader" (371 : Nat) "GridTable$Crossings") ∈ lw_all := lw_g (lw_at lw_m7 49 rfl) rfl
theorem q1602 : (Jvm.Cond.methodLink "GridTable$Reader" (373 : Nat) ({ cls := "GridTable$Crossings", name := "<init>", desc := "(II)V" } : Jvm.MethodName)) ∈ lw_all := lw_g (lw_at lw_m7 51 rfl) rfl
theorem q1613 : (Jvm.Cond.fieldLinkNest "GridTable$Reader" (374 : Nat) "GridTable$What" "ALL" "[LGridTable$What;" "GridTable") ∈ lw_tbl := lw_at lw_m7 62 rfl
theorem q1615 : (Jvm.Cond.classLink "GridTable$Reader" (383 : Nat) "GridTable$Asked") ∈ lw_all := lw_g (lw_at lw_m7 64 rfl) rfl
theorem q1617 : (Jvm.Cond.methodLink "GridTable$Reader" (388 : Nat) ({ cls := "GridTable$Reader", name := "which", desc := "(LGridTable$Kind;)I" } : Jvm.MethodName)) ∈ lw_all := lw_g (lw_at lw_m7 66 rfl) rfl
theorem q1618 : (Jvm.Cond.privateMethod ({ cls := "GridTable$Reader", name := "which", desc := "(LGridTable$Kind;)I" } : Jvm.MethodName)) ∈ lw_tbl := lw_at lw_m7 67 rfl
theorem q1619 : (Jvm.Cond.instanceMethod ({ cls := "GridTable$Reader", name := "which", desc := "(LGridTable$Kind;)I" } : Jvm.MethodName)) ∈ lw_all := lw_g (lw_at lw_m7 68 rfl) rfl
theorem q1620 : (Jvm.Cond.code ({ cls := "GridTable$Reader", name := "which", desc := "(LGridTable$Kind;)I" } : Jvm.MethodName) prog_15_method_25_code (2 : Nat) (Option.some Jvm.ClassFile.FieldType.int)) ∈ lw_all := lw_g (lw_at lw_m7 69 rfl) rfl
theorem q1621 : (Jvm.Cond.fieldLink "GridTable$Reader" (355 : Nat) "GridTable$Kind" "NOTHING" "LGridTable$Kind;") ∈ lw_all := lw_g (lw_at lw_m7 70 rfl) rfl
theorem q1623 : (Jvm.Cond.fieldLink "GridTable$Reader" (361 : Nat) "GridTable$Kind" "POINT" "LGridTable$Kind;") ∈ lw_all := lw_g (lw_at lw_m7 72 rfl) rfl
theorem q1625 : (Jvm.Cond.methodLink "GridTable$Reader" (392 : Nat) ({ cls := "GridTable$Asked", name := "<init>", desc := "(LGridTable$What;I)V" } : Jvm.MethodName)) ∈ lw_all := lw_g (lw_at lw_m7 74 rfl) rfl
theorem q1636 : (Jvm.Cond.stringRef "GridTable$Reader" (326 : Nat) "-") ∈ lw_tbl := lw_at lw_m7 85 rfl
theorem q1637 : (Jvm.Cond.methodLink "GridTable$Reader" (281 : Nat) ({ cls := "GridTable$Reader", name := "deeper", desc := "(Ljava/lang/String;)V" } : Jvm.MethodName)) ∈ lw_all := lw_g (lw_at lw_m7 86 rfl) rfl
theorem q1638 : (Jvm.Cond.privateMethod ({ cls := "GridTable$Reader", name := "deeper", desc := "(Ljava/lang/String;)V" } : Jvm.MethodName)) ∈ lw_tbl := lw_at lw_m7 87 rfl
theorem q1639 : (Jvm.Cond.instanceMethod ({ cls := "GridTable$Reader", name := "deeper", desc := "(Ljava/lang/String;)V" } : Jvm.MethodName)) ∈ lw_all := lw_g (lw_at lw_m7 88 rfl) rfl
theorem q1640 : (Jvm.Cond.code ({ cls := "GridTable$Reader", name := "deeper", desc := "(Ljava/lang/String;)V" } : Jvm.MethodName) prog_15_method_7_code (2 : Nat) (Option.none : Option Jvm.ClassFile.FieldType)) ∈ lw_all := lw_g (lw_at lw_m7 89 rfl) rfl
theorem q1641 : (Jvm.Cond.classLink "GridTable$Reader" (395 : Nat) "GridTable$Turned") ∈ lw_all := lw_g (lw_at lw_m7 90 rfl) rfl
theorem q1643 : (Jvm.Cond.methodLink "GridTable$Reader" (397 : Nat) ({ cls := "GridTable$Turned", name := "<init>", desc := "(LGridTable$Sum;)V" } : Jvm.MethodName)) ∈ lw_all := lw_g (lw_at lw_m7 92 rfl) rfl
theorem q1651 : (Jvm.Cond.fieldLink "GridTable$Reader" (400 : Nat) "GridTable$Sign" "LEAST" "LGridTable$Sign;") ∈ lw_all := lw_g (lw_at lw_m7 100 rfl) rfl
theorem q1653 : (Jvm.Cond.fieldLink "GridTable$Reader" (404 : Nat) "GridTable$Sign" "MOST_OF" "LGridTable$Sign;") ∈ lw_all := lw_g (lw_at lw_m7 102 rfl) rfl
theorem q1655 : (Jvm.Cond.stringRef "GridTable$Reader" (407 : Nat) "(") ∈ lw_tbl := lw_at lw_m7 104 rfl
theorem q1656 : (Jvm.Cond.stringRef "GridTable$Reader" (164 : Nat) ",") ∈ lw_tbl := lw_at lw_m7 105 rfl
theorem q1657 : (Jvm.Cond.classLink "GridTable$Reader" (337 : Nat) "GridTable$Joined") ∈ lw_all := lw_g (lw_at lw_m7 106 rfl) rfl
theorem q1659 : (Jvm.Cond.methodLink "GridTable$Reader" (339 : Nat) ({ cls := "GridTable$Joined", name := "<init>", desc := "(LGridTable$Sign;LGridTable$Sum;LGridTable$Sum;)V" } : Jvm.MethodName)) ∈ lw_all := lw_g (lw_at lw_m7 108 rfl) rfl
theorem q1673 : (Jvm.Cond.stringRef "GridTable$Reader" (409 : Nat) ")") ∈ lw_tbl := lw_at lw_m7 122 rfl
theorem q1674 : (Jvm.Cond.methodLink "GridTable$Reader" (293 : Nat) ({ cls := "GridTable$Reader", name := "close", desc := "(Ljava/lang/String;)V" } : Jvm.MethodName)) ∈ lw_all := lw_g (lw_at lw_m7 123 rfl) rfl
theorem q1675 : (Jvm.Cond.privateMethod ({ cls := "GridTable$Reader", name := "close", desc := "(Ljava/lang/String;)V" } : Jvm.MethodName)) ∈ lw_tbl := lw_at lw_m7 124 rfl
theorem q1676 : (Jvm.Cond.instanceMethod ({ cls := "GridTable$Reader", name := "close", desc := "(Ljava/lang/String;)V" } : Jvm.MethodName)) ∈ lw_all := lw_g (lw_at lw_m7 125 rfl) rfl
theorem q1677 : (Jvm.Cond.code ({ cls := "GridTable$Reader", name := "close", desc := "(Ljava/lang/String;)V" } : Jvm.MethodName) prog_15_method_8_code (2 : Nat) (Option.none : Option Jvm.ClassFile.FieldType)) ∈ lw_all := lw_g (lw_at lw_m7 126 rfl) rfl
theorem q1678 : (Jvm.Cond.stringRef "GridTable$Reader" (345 : Nat) "*") ∈ lw_tbl := lw_at lw_m7 127 rfl
theorem q1679 : (Jvm.Cond.stringRef "GridTable$Reader" (347 : Nat) "/") ∈ lw_tbl := lw_at lw_m7 128 rfl
theorem q1680 : (Jvm.Cond.fieldLink "GridTable$Reader" (349 : Nat) "GridTable$Sign" "TIMES" "LGridTable$Sign;") ∈ lw_all := lw_g (lw_at lw_m7 129 rfl) rfl
theorem q1682 : (Jvm.Cond.fieldLink "GridTable$Reader" (352 : Nat) "GridTable$Sign" "PARTED" "LGridTable$Sign;") ∈ lw_all := lw_g (lw_at lw_m7 131 rfl) rfl
theorem q1684 : (Jvm.Cond.stringRef "GridTable$Reader" (324 : Nat) "+") ∈ lw_tbl := lw_at lw_m7 133 rfl
theorem q1685 : (Jvm.Cond.fieldLink "GridTable$Reader" (328 : Nat) "GridTable$Sign" "PLUS" "LGridTable$Sign;") ∈ lw_all := lw_g (lw_at lw_m7 134 rfl) rfl
theorem q1687 : (Jvm.Cond.fieldLink "GridTable$Reader" (334 : Nat) "GridTable$Sign" "MINUS" "LGridTable$Sign;") ∈ lw_all := lw_g (lw_at lw_m7 136 rfl) rfl
theorem q1689 : (Jvm.Cond.methodLink "GridTable$Reader" (168 : Nat) ({ cls := "GridTable$Sum", name := "of", desc := "(LGridTable$Table;)I" } : Jvm.MethodName)) ∈ lw_all := lw_g (lw_at lw_m7 138 rfl) rfl
theorem q1786 : (Jvm.Cond.methodLink "GridTable$Reader" (174 : Nat) ({ cls := "GridTable$Table", name := "put", desc := "(IJJ)V" } : Jvm.MethodName)) ∈ lw_all := lw_g (lw_at lw_m7 235 rfl) rfl
theorem q1801 : (Jvm.Cond.methodLink "GridTable$Reader" (177 : Nat) ({ cls := "GridTable$Reader", name := "put", desc := "(Ljava/util/HashMap;Ljava/lang/String;)V" } : Jvm.MethodName)) ∈ lw_all := lw_g (lw_at lw_m8 10 rfl) rfl
theorem q1802 : (Jvm.Cond.privateMethod ({ cls := "GridTable$Reader", name := "put", desc := "(Ljava/util/HashMap;Ljava/lang/String;)V" } : Jvm.MethodName)) ∈ lw_tbl := lw_at lw_m8 11 rfl
theorem q1803 : (Jvm.Cond.instanceMethod ({ cls := "GridTable$Reader", name := "put", desc := "(Ljava/util/HashMap;Ljava/lang/String;)V" } : Jvm.MethodName)) ∈ lw_all := lw_g (lw_at lw_m8 12 rfl) rfl
theorem q1804 : (Jvm.Cond.code ({ cls := "GridTable$Reader", name := "put", desc := "(Ljava/util/HashMap;Ljava/lang/String;)V" } : Jvm.MethodName) prog_15_method_12_code (3 : Nat) (Option.none : Option Jvm.ClassFile.FieldType)) ∈ lw_all := lw_g (lw_at lw_m8 13 rfl) rfl
theorem q1805 : (Jvm.Cond.methodLink "GridTable$Reader" (113 : Nat) ({ cls := "java/util/HashMap", name := "put", desc := "(Ljava/lang/Object;Ljava/lang/Object;)Ljava/lang/Object;" } : Jvm.MethodName)) ∈ lw_all := lw_g (lw_at lw_m8 14 rfl) rfl
theorem q1945 : (Jvm.Cond.stringRef "GridTable$Reader" (145 : Nat) "shape") ∈ lw_tbl := lw_at lw_m8 154 rfl
theorem q1946 : (Jvm.Cond.methodLink "GridTable$Reader" (147 : Nat) ({ cls := "GridTable$Reader", name := "shape", desc := "()V" } : Jvm.MethodName)) ∈ lw_all := lw_g (lw_at lw_m8 155 rfl) rfl
theorem q1947 : (Jvm.Cond.privateMethod ({ cls := "GridTable$Reader", name := "shape", desc := "()V" } : Jvm.MethodName)) ∈ lw_tbl := lw_at lw_m8 156 rfl
theorem q1948 : (Jvm.Cond.instanceMethod ({ cls := "GridTable$Reader", name := "shape", desc := "()V" } : Jvm.MethodName)) ∈ lw_all := lw_g (lw_at lw_m8 157 rfl) rfl
theorem q1949 : (Jvm.Cond.code ({ cls := "GridTable$Reader", name := "shape", desc := "()V" } : Jvm.MethodName) prog_15_method_17_code (3 : Nat) (Option.none : Option Jvm.ClassFile.FieldType)) ∈ lw_all := lw_g (lw_at lw_m8 158 rfl) rfl
theorem q1950 : (Jvm.Cond.stringRef "GridTable$Reader" (180 : Nat) "of") ∈ lw_tbl := lw_at lw_m8 159 rfl
theorem q1951 : (Jvm.Cond.classLink "GridTable$Reader" (181 : Nat) "java/util/ArrayList") ∈ lw_all := lw_g (lw_at lw_m8 160 rfl) rfl
theorem q1952 : (Jvm.Cond.methodLink "GridTable$Reader" (183 : Nat) ({ cls := "java/util/ArrayList", name := "<init>", desc := "()V" } : Jvm.MethodName)) ∈ lw_all := lw_g (lw_at lw_m8 161 rfl) rfl
theorem q1953 : (Jvm.Cond.methodLink "GridTable$Reader" (184 : Nat) ({ cls := "GridTable$Reader", name := "corner", desc := "(Ljava/util/List;)V" } : Jvm.MethodName)) ∈ lw_all := lw_g (lw_at lw_m8 162 rfl) rfl
theorem q1954 : (Jvm.Cond.privateMethod ({ cls := "GridTable$Reader", name := "corner", desc := "(Ljava/util/List;)V" } : Jvm.MethodName)) ∈ lw_tbl := lw_at lw_m8 163 rfl
theorem q1955 : (Jvm.Cond.instanceMethod ({ cls := "GridTable$Reader", name := "corner", desc := "(Ljava/util/List;)V" } : Jvm.MethodName)) ∈ lw_all := lw_g (lw_at lw_m8 164 rfl) rfl
theorem q1956 : (Jvm.Cond.code ({ cls := "GridTable$Reader", name := "corner", desc := "(Ljava/util/List;)V" } : Jvm.MethodName) prog_15_method_18_code (4 : Nat) (Option.none : Option Jvm.ClassFile.FieldType)) ∈ lw_all := lw_g (lw_at lw_m8 165 rfl) rfl
theorem q1957 : (Jvm.Cond.interfaceEntry "GridTable$Reader" (209 : Nat)) ∈ lw_tbl := lw_at lw_m8 166 rfl
theorem q1958 : (Jvm.Cond.methodLink "GridTable$Reader" (209 : Nat) ({ cls := "java/util/List", name := "size", desc := "()I" } : Jvm.MethodName)) ∈ lw_all := lw_g (lw_at lw_m8 167 rfl) rfl
theorem q1964 : (Jvm.Cond.interfaceEntry "GridTable$Reader" (210 : Nat)) ∈ lw_tbl := lw_at lw_m8 173 rfl
theorem q1965 : (Jvm.Cond.methodLink "GridTable$Reader" (210 : Nat) ({ cls := "java/util/List", name := "contains", desc := "(Ljava/lang/Object;)Z" } : Jvm.MethodName)) ∈ lw_all := lw_g (lw_at lw_m8 174 rfl) rfl
theorem q1982 : (Jvm.Cond.interfaceEntry "GridTable$Reader" (213 : Nat)) ∈ lw_tbl := lw_at lw_m8 191 rfl
theorem q1983 : (Jvm.Cond.methodLink "GridTable$Reader" (213 : Nat) ({ cls := "java/util/List", name := "add", desc := "(Ljava/lang/Object;)Z" } : Jvm.MethodName)) ∈ lw_all := lw_g (lw_at lw_m8 192 rfl) rfl
theorem q1989 : (Jvm.Cond.methodLink "GridTable$Reader" (188 : Nat) ({ cls := "java/util/ArrayList", name := "size", desc := "()I" } : Jvm.MethodName)) ∈ lw_all := lw_g (lw_at lw_m8 198 rfl) rfl
theorem q1990 : (Jvm.Cond.classLink "GridTable$Reader" (192 : Nat) "GridTable$Table$Shape") ∈ lw_all := lw_g (lw_at lw_m8 199 rfl) rfl
theorem q1991 : (Jvm.Cond.methodLink "GridTable$Reader" (194 : Nat) ({ cls := "java/util/Objects", name := "requireNonNull", desc := "(Ljava/lang/Object;)Ljava/lang/Object;" } : Jvm.MethodName)) ∈ lw_all := lw_g (lw_at lw_m8 200 rfl) rfl
theorem q1994 : (Jvm.Cond.methodLink "GridTable$Reader" (199 : Nat) ({ cls := "GridTable$Table$Shape", name := "<init>", desc := "(LGridTable$Table;Ljava/util/List;)V" } : Jvm.MethodName)) ∈ lw_all := lw_g (lw_at lw_m8 203 rfl) rfl
theorem q2015 : (Jvm.Cond.methodLink "GridTable$Reader" (202 : Nat) ({ cls := "java/util/ArrayList", name := "add", desc := "(Ljava/lang/Object;)Z" } : Jvm.MethodName)) ∈ lw_all := lw_g (lw_at lw_m8 224 rfl) rfl
theorem q2016 : (Jvm.Cond.methodLink "GridTable$Reader" (149 : Nat) ({ cls := "GridTable$Reader", name := "step", desc := "(LGridTable$Token;)V" } : Jvm.MethodName)) ∈ lw_all := lw_g (lw_at lw_m8 225 rfl) rfl
theorem q2017 : (Jvm.Cond.privateMethod ({ cls := "GridTable$Reader", name := "step", desc := "(LGridTable$Token;)V" } : Jvm.MethodName)) ∈ lw_tbl := lw_at lw_m8 226 rfl
theorem q2018 : (Jvm.Cond.instanceMethod ({ cls := "GridTable$Reader", name := "step", desc := "(LGridTable$Token;)V" } : Jvm.MethodName)) ∈ lw_all := lw_g (lw_at lw_m8 227 rfl) rfl
theorem q2019 : (Jvm.Cond.code ({ cls := "GridTable$Reader", name := "step", desc := "(LGridTable$Token;)V" } : Jvm.MethodName) prog_15_method_19_code (7 : Nat) (Option.none : Option Jvm.ClassFile.FieldType)) ∈ lw_all := lw_g (lw_at lw_m8 228 rfl) rfl
theorem q2020 : (Jvm.Cond.stringRef "GridTable$Reader" (214 : Nat) "move") ∈ lw_tbl := lw_at lw_m8 229 rfl
theorem q2021 : (Jvm.Cond.fieldLink "GridTable$Reader" (216 : Nat) "GridTable$Deed" "MOVE" "LGridTable$Deed;") ∈ lw_all := lw_g (lw_at lw_m8 230 rfl) rfl
theorem q2023 : (Jvm.Cond.stringRef "GridTable$Reader" (222 : Nat) "turn") ∈ lw_tbl := lw_at lw_m8 232 rfl
theorem q2024 : (Jvm.Cond.fieldLink "GridTable$Reader" (224 : Nat) "GridTable$Deed" "TURN" "LGridTable$Deed;") ∈ lw_all := lw_g (lw_at lw_m8 233 rfl) rfl
theorem q2026 : (Jvm.Cond.fieldLink "GridTable$Reader" (227 : Nat) "GridTable$Deed" "FLIP" "LGridTable$Deed;") ∈ lw_all := lw_g (lw_at lw_m8 235 rfl) rfl
theorem q2028 : (Jvm.Cond.stringRef "GridTable$Reader" (230 : Nat) "flip") ∈ lw_tbl := lw_at lw_m8 237 rfl
theorem q2029 : (Jvm.Cond.stringRef "GridTable$Reader" (235 : Nat) "by") ∈ lw_tbl := lw_at lw_m8 238 rfl
theorem q2030 : (Jvm.Cond.stringRef "GridTable$Reader" (237 : Nat) "round") ∈ lw_tbl := lw_at lw_m8 239 rfl
theorem q2031 : (Jvm.Cond.methodLink "GridTable$Reader" (239 : Nat) ({ cls := "java/util/Optional", name := "empty", desc := "()Ljava/util/Optional;" } : Jvm.MethodName)) ∈ lw_all := lw_g (lw_at lw_m9 0 rfl) rfl
theorem q2034 : (Jvm.Cond.methodLink "GridTable$Reader" (243 : Nat) ({ cls := "java/util/Optional", name := "of", desc := "(Ljava/lang/Object;)Ljava/util/Optional;" } : Jvm.MethodName)) ∈ lw_all := lw_g (lw_at lw_m9 3 rfl) rfl
theorem q2038 : (Jvm.Cond.classLink "GridTable$Reader" (245 : Nat) "GridTable$Step") ∈ lw_all := lw_g (lw_at lw_m9 7 rfl) rfl
theorem q2040 : (Jvm.Cond.stringRef "GridTable$Reader" (247 : Nat) "when") ∈ lw_tbl := lw_at lw_m9 9 rfl
theorem q2041 : (Jvm.Cond.methodLink "GridTable$Reader" (249 : Nat) ({ cls := "GridTable$Reader", name := "test", desc := "()LGridTable$Test;" } : Jvm.MethodName)) ∈ lw_all := lw_g (lw_at lw_m9 10 rfl) rfl
theorem q2042 : (Jvm.Cond.privateMethod ({ cls := "GridTable$Reader", name := "test", desc := "()LGridTable$Test;" } : Jvm.MethodName)) ∈ lw_tbl := lw_at lw_m9 11 rfl
theorem q2043 : (Jvm.Cond.instanceMethod ({ cls := "GridTable$Reader", name := "test", desc := "()LGridTable$Test;" } : Jvm.MethodName)) ∈ lw_all := lw_g (lw_at lw_m9 12 rfl) rfl
theorem q2044 : (Jvm.Cond.code ({ cls := "GridTable$Reader", name := "test", desc := "()LGridTable$Test;" } : Jvm.MethodName) prog_15_method_20_code (2 : Nat) (Option.some (Jvm.ClassFile.FieldType.object "GridTable$Test"))) ∈ lw_all := lw_g (lw_at lw_m9 13 rfl) rfl
theorem q2045 : (Jvm.Cond.classLink "GridTable$Reader" (261 : Nat) "GridTable$Several") ∈ lw_all := lw_g (lw_at lw_m9 14 rfl) rfl
theorem q2047 : (Jvm.Cond.methodLink "GridTable$Reader" (263 : Nat) ({ cls := "GridTable$Several", name := "<init>", desc := "(Z)V" } : Jvm.MethodName)) ∈ lw_all := lw_g (lw_at lw_m9 16 rfl) rfl
theorem q2055 : (Jvm.Cond.fieldLinkNest "GridTable$Reader" (266 : Nat) "GridTable$Several" "tests" "Ljava/util/ArrayList;" "GridTable") ∈ lw_tbl := lw_at lw_m9 24 rfl
theorem q2061 : (Jvm.Cond.methodLink "GridTable$Reader" (269 : Nat) ({ cls := "GridTable$Reader", name := "both", desc := "()LGridTable$Test;" } : Jvm.MethodName)) ∈ lw_all := lw_g (lw_at lw_m9 30 rfl) rfl
theorem q2062 : (Jvm.Cond.privateMethod ({ cls := "GridTable$Reader", name := "both", desc := "()LGridTable$Test;" } : Jvm.MethodName)) ∈ lw_tbl := lw_at lw_m9 31 rfl
theorem q2063 : (Jvm.Cond.instanceMethod ({ cls := "GridTable$Reader", name := "both", desc := "()LGridTable$Test;" } : Jvm.MethodName)) ∈ lw_all := lw_g (lw_at lw_m9 32 rfl) rfl
theorem q2064 : (Jvm.Cond.code ({ cls := "GridTable$Reader", name := "both", desc := "()LGridTable$Test;" } : Jvm.MethodName) prog_15_method_21_code (2 : Nat) (Option.some (Jvm.ClassFile.FieldType.object "GridTable$Test"))) ∈ lw_all := lw_g (lw_at lw_m9 33 rfl) rfl
theorem q2065 : (Jvm.Cond.methodLink "GridTable$Reader" (274 : Nat) ({ cls := "GridTable$Reader", name := "single", desc := "()LGridTable$Test;" } : Jvm.MethodName)) ∈ lw_all := lw_g (lw_at lw_m9 34 rfl) rfl
theorem q2066 : (Jvm.Cond.privateMethod ({ cls := "GridTable$Reader", name := "single", desc := "()LGridTable$Test;" } : Jvm.MethodName)) ∈ lw_tbl := lw_at lw_m9 35 rfl
theorem q2067 : (Jvm.Cond.instanceMethod ({ cls := "GridTable$Reader", name := "single", desc := "()LGridTable$Test;" } : Jvm.MethodName)) ∈ lw_all := lw_g (lw_at lw_m9 36 rfl) rfl
theorem q2068 : (Jvm.Cond.code ({ cls := "GridTable$Reader", name := "single", desc := "()LGridTable$Test;" } : Jvm.MethodName) prog_15_method_22_code (3 : Nat) (Option.some (Jvm.ClassFile.FieldType.object "GridTable$Test"))) ∈ lw_all := lw_g (lw_at lw_m9 37 rfl) rfl
theorem q2069 : (Jvm.Cond.stringRef "GridTable$Reader" (279 : Nat) "not") ∈ lw_tbl := lw_at lw_m9 38 rfl
theorem q2070 : (Jvm.Cond.classLink "GridTable$Reader" (284 : Nat) "GridTable$Denied") ∈ lw_all := lw_g (lw_at lw_m9 39 rfl) rfl
theorem q2072 : (Jvm.Cond.methodLink "GridTable$Reader" (286 : Nat) ({ cls := "GridTable$Denied", name := "<init>", desc := "(LGridTable$Test;)V" } : Jvm.MethodName)) ∈ lw_all := lw_g (lw_at lw_m9 41 rfl) rfl
theorem q2080 : (Jvm.Cond.stringRef "GridTable$Reader" (289 : Nat) "[") ∈ lw_tbl := lw_at lw_m9 49 rfl
theorem q2081 : (Jvm.Cond.stringRef "GridTable$Reader" (291 : Nat) "]") ∈ lw_tbl := lw_at lw_m9 50 rfl
theorem q2082 : (Jvm.Cond.stringRef "GridTable$Reader" (296 : Nat) "inside") ∈ lw_tbl := lw_at lw_m9 51 rfl
theorem q2083 : (Jvm.Cond.classLink "GridTable$Reader" (298 : Nat) "GridTable$Inside") ∈ lw_all := lw_g (lw_at lw_m9 52 rfl) rfl
theorem q2085 : (Jvm.Cond.methodLink "GridTable$Reader" (300 : Nat) ({ cls := "GridTable$Inside", name := "<init>", desc := "(II)V" } : Jvm.MethodName)) ∈ lw_all := lw_g (lw_at lw_m9 54 rfl) rfl
theorem q2096 : (Jvm.Cond.fieldLink "GridTable$Reader" (301 : Nat) "GridTable$Sort" "SYMBOL" "LGridTable$Sort;") ∈ lw_all := lw_g (lw_at lw_m9 65 rfl) rfl
theorem q2097 : (Jvm.Cond.stringRef "GridTable$Reader" (304 : Nat) "<>=") ∈ lw_tbl := lw_at lw_m9 66 rfl
theorem q2098 : (Jvm.Cond.methodLink "GridTable$Reader" (306 : Nat) ({ cls := "java/lang/String", name := "charAt", desc := "(I)C" } : Jvm.MethodName)) ∈ lw_all := lw_g (lw_at lw_m9 67 rfl) rfl
theorem q2099 : (Jvm.Cond.methodLink "GridTable$Reader" (312 : Nat) ({ cls := "java/lang/String", name := "indexOf", desc := "(I)I" } : Jvm.MethodName)) ∈ lw_all := lw_g (lw_at lw_m9 68 rfl) rfl
theorem q2100 : (Jvm.Cond.classLink "GridTable$Reader" (316 : Nat) "GridTable$Compared") ∈ lw_all := lw_g (lw_at lw_m9 69 rfl) rfl
theorem q2102 : (Jvm.Cond.methodLink "GridTable$Reader" (318 : Nat) ({ cls := "GridTable$Compared", name := "<init>", desc := "(Ljava/lang/String;LGridTable$Sum;LGridTable$Sum;)V" } : Jvm.MethodName)) ∈ lw_all := lw_g (lw_at lw_m9 71 rfl) rfl
theorem q2116 : (Jvm.Cond.stringRef "GridTable$Reader" (277 : Nat) "and") ∈ lw_tbl := lw_at lw_m9 85 rfl
theorem q2117 : (Jvm.Cond.stringRef "GridTable$Reader" (272 : Nat) "or") ∈ lw_tbl := lw_at lw_m9 86 rfl
theorem q2118 : (Jvm.Cond.methodLink "GridTable$Reader" (253 : Nat) ({ cls := "GridTable$Test", name := "always", desc := "()LGridTable$Test;" } : Jvm.MethodName)) ∈ lw_all := lw_g (lw_at lw_m9 87 rfl) rfl
theorem q2128 : (Jvm.Cond.methodLink "GridTable$Reader" (258 : Nat) ({ cls := "GridTable$Step", name := "<init>", desc := "(LGridTable$Deed;IILjava/util/Optional;Ljava/util/Optional;LGridTable$Test;)V" } : Jvm.MethodName)) ∈ lw_all := lw_g (lw_at lw_m9 97 rfl) rfl
theorem q2164 : (Jvm.Cond.stringRef "GridTable$Reader" (153 : Nat) ";") ∈ lw_tbl := lw_at lw_m9 133 rfl
theorem q3337 : (Jvm.Cond.castable "GridTable$Reader" "java/lang/Object") ∈ lw_tbl := lw_at lw_m14 106 rfl
theorem q3396 : (Jvm.Cond.fieldLinkNest "GridTable$Reader" (380 : Nat) "GridTable$What" "word" "Ljava/lang/String;" "GridTable") ∈ lw_tbl := lw_at lw_m14 165 rfl
theorem q3397 : (Jvm.Cond.fieldLinkNest "GridTable$Reader" (385 : Nat) "GridTable$What" "kind" "LGridTable$Kind;" "GridTable") ∈ lw_tbl := lw_at lw_m14 166 rfl
theorem q3398 : (Jvm.Cond.fieldLinkNest "GridTable$Reader" (403 : Nat) "GridTable$Sign" "word" "Ljava/lang/String;" "GridTable") ∈ lw_tbl := lw_at lw_m14 167 rfl
theorem in_X7 : ∀ w ∈ wsX70, w ∈ lw_all := lw_in wsX70 [910, 912, 914, 916, 918, 920, 922] (by decide +kernel) (by decide +kernel)

/-! GridTable$Scanner -/
set_option maxRecDepth 100000
def RX8 : String := "GridTable$Scanner"
def TX8 : u_T := fun k => match k with
  | 0 => ("GridTable$Scanner", "tape", "LGridTable$Tape;", true)
  | _ => ("GridTable$Scanner", "tokens", "Ljava/util/ArrayList;", true)
def tyX8 : Nat → FieldType := fun k => match k with
  | 0 => .object "GridTable$Tape"
  | _ => .object "java/util/ArrayList"
abbrev wsX80 : List Cond := u_ws RX8 TX8 2
theorem nmX8 : ∀ a, a < 2 → ∀ b, b < 2 → a ≠ b → (TX8 a).2.1 ≠ (TX8 b).2.1 := by decide +kernel
theorem tyX8_ok : ∀ k, k < 2 → parseFieldDescriptor (TX8 k).2.2.1 = some (tyX8 k) := by decide +kernel
abbrev cX8_init : ByteArray := prog_16_method_1_code
def yX8_init : MethodName := ⟨RX8, "<init>", "(LGridTable$Tape;)V"⟩
def dkwX8_init_0 : List UInt8 := [42, 183, 0, 3, 42, 187, 0, 9, 89, 183, 0, 11, 181, 0, 12, 42, 43, 181, 0, 18, 177]
abbrev dktX8_init_0 : List UInt8 := dkwX8_init_0 ++ []
theorem dksX8_init_0 : cX8_init.data.toList.drop 0 = dktX8_init_0 := by decide +kernel
theorem dX8_init_0 : decode cX8_init 0 = .ok (.aload_n 0, 1) := dk_42 (dk_at dksX8_init_0 0 rfl rfl)
theorem dX8_init_1 : decode cX8_init 1 = .ok (.invokespecial 3, 3) := dk_183 0 3 (dk_at dksX8_init_0 1 rfl rfl)
theorem dX8_init_4 : decode cX8_init 4 = .ok (.aload_n 0, 1) := dk_42 (dk_at dksX8_init_0 4 rfl rfl)
theorem dX8_init_5 : decode cX8_init 5 = .ok (.new 9, 3) := dk_187 0 9 (dk_at dksX8_init_0 5 rfl rfl)
theorem dX8_init_8 : decode cX8_init 8 = .ok (.dup, 1) := dk_89 (dk_at dksX8_init_0 8 rfl rfl)
theorem dX8_init_9 : decode cX8_init 9 = .ok (.invokespecial 11, 3) := dk_183 0 11 (dk_at dksX8_init_0 9 rfl rfl)
theorem dX8_init_12 : decode cX8_init 12 = .ok (.putfield 12, 3) := dk_181 0 12 (dk_at dksX8_init_0 12 rfl rfl)
theorem dX8_init_15 : decode cX8_init 15 = .ok (.aload_n 0, 1) := dk_42 (dk_at dksX8_init_0 15 rfl rfl)
theorem dX8_init_16 : decode cX8_init 16 = .ok (.aload_n 1, 1) := dk_43 (dk_at dksX8_init_0 16 rfl rfl)
theorem dX8_init_17 : decode cX8_init 17 = .ok (.putfield 18, 3) := dk_181 0 18 (dk_at dksX8_init_0 17 rfl rfl)
theorem dX8_init_20 : decode cX8_init 20 = .ok (.return_, 1) := dk_177 (dk_at dksX8_init_0 20 rfl rfl)
abbrev cX8_all : ByteArray := prog_16_method_6_code
def yX8_all : MethodName := ⟨RX8, "all", "()Ljava/util/List;"⟩
def dkwX8_all_4 : List UInt8 := [183, 0, 77, 182, 0, 50, 87, 42, 180, 0, 12, 176]
abbrev dktX8_all_4 : List UInt8 := dkwX8_all_4 ++ []
def dkwX8_all_3 : List UInt8 := [60, 167, 255, 185, 42, 180, 0, 12, 187, 0, 54, 89, 178, 0, 72, 18, 75, 42, 180, 0, 18, 180, 0, 32]
abbrev dktX8_all_3 : List UInt8 := dkwX8_all_3 ++ dktX8_all_4
def dkwX8_all_2 : List UInt8 := [44, 180, 0, 53, 178, 0, 59, 166, 0, 8, 42, 180, 0, 12, 176, 27, 44, 180, 0, 64, 182, 0, 68, 96]
abbrev dktX8_all_2 : List UInt8 := dkwX8_all_2 ++ dktX8_all_3
def dkwX8_all_1 : List UInt8 := [153, 0, 9, 132, 1, 1, 167, 255, 228, 42, 27, 182, 0, 46, 77, 42, 180, 0, 12, 44, 182, 0, 50, 87]
abbrev dktX8_all_1 : List UInt8 := dkwX8_all_1 ++ dktX8_all_2
def dkwX8_all_0 : List UInt8 := [3, 60, 27, 42, 180, 0, 18, 180, 0, 32, 162, 0, 66, 42, 180, 0, 18, 27, 182, 0, 38, 184, 0, 42]
abbrev dktX8_all_0 : List UInt8 := dkwX8_all_0 ++ dktX8_all_1
theorem dksX8_all_0 : cX8_all.data.toList.drop 0 = dktX8_all_0 := by decide +kernel
theorem dksX8_all_1 : cX8_all.data.toList.drop 24 = dktX8_all_1 := dk_seg dksX8_all_0 24 rfl rfl
theorem dksX8_all_2 : cX8_all.data.toList.drop 48 = dktX8_all_2 := dk_seg dksX8_all_1 24 rfl rfl
theorem dksX8_all_3 : cX8_all.data.toList.drop 72 = dktX8_all_3 := dk_seg dksX8_all_2 24 rfl rfl
theorem dksX8_all_4 : cX8_all.data.toList.drop 96 = dktX8_all_4 := dk_seg dksX8_all_3 24 rfl rfl
theorem dX8_all_0 : decode cX8_all 0 = .ok (.iconst 0, 1) := dk_3 (dk_at dksX8_all_0 0 rfl rfl)
theorem dX8_all_1 : decode cX8_all 1 = .ok (.istore_n 1, 1) := dk_60 (dk_at dksX8_all_0 1 rfl rfl)
theorem dX8_all_2 : decode cX8_all 2 = .ok (.iload_n 1, 1) := dk_27 (dk_at dksX8_all_0 2 rfl rfl)
theorem dX8_all_3 : decode cX8_all 3 = .ok (.aload_n 0, 1) := dk_42 (dk_at dksX8_all_0 3 rfl rfl)
theorem dX8_all_4 : decode cX8_all 4 = .ok (.getfield 18, 3) := dk_180 0 18 (dk_at dksX8_all_0 4 rfl rfl)
theorem dX8_all_7 : decode cX8_all 7 = .ok (.getfield 32, 3) := dk_180 0 32 (dk_at dksX8_all_0 7 rfl rfl)
theorem dX8_all_10 : decode cX8_all 10 = .ok (.if_icmp .ge 66, 3) := dk_162 0 66 (dk_at dksX8_all_0 10 rfl rfl)
theorem dX8_all_13 : decode cX8_all 13 = .ok (.aload_n 0, 1) := dk_42 (dk_at dksX8_all_0 13 rfl rfl)
theorem dX8_all_14 : decode cX8_all 14 = .ok (.getfield 18, 3) := dk_180 0 18 (dk_at dksX8_all_0 14 rfl rfl)
theorem dX8_all_17 : decode cX8_all 17 = .ok (.iload_n 1, 1) := dk_27 (dk_at dksX8_all_0 17 rfl rfl)
theorem dX8_all_18 : decode cX8_all 18 = .ok (.invokevirtual 38, 3) := dk_182 0 38 (dk_at dksX8_all_0 18 rfl rfl)
theorem dX8_all_21 : decode cX8_all 21 = .ok (.invokestatic 42, 3) := dk_184 0 42 (dk_at dksX8_all_0 21 rfl rfl)
theorem dX8_all_24 : decode cX8_all 24 = .ok (.ifCond .eq 9, 3) := dk_153 0 9 (dk_at dksX8_all_1 0 rfl rfl)
theorem dX8_all_27 : decode cX8_all 27 = .ok (.iinc 1 1, 3) := dk_132 1 1 (dk_at dksX8_all_1 3 rfl rfl)
theorem dX8_all_30 : decode cX8_all 30 = .ok (.goto (-28), 3) := dk_167 255 228 (dk_at dksX8_all_1 6 rfl rfl)
theorem dX8_all_33 : decode cX8_all 33 = .ok (.aload_n 0, 1) := dk_42 (dk_at dksX8_all_1 9 rfl rfl)
theorem dX8_all_34 : decode cX8_all 34 = .ok (.iload_n 1, 1) := dk_27 (dk_at dksX8_all_1 10 rfl rfl)
theorem dX8_all_35 : decode cX8_all 35 = .ok (.invokevirtual 46, 3) := dk_182 0 46 (dk_at dksX8_all_1 11 rfl rfl)
theorem dX8_all_38 : decode cX8_all 38 = .ok (.astore_n 2, 1) := dk_77 (dk_at dksX8_all_1 14 rfl rfl)
theorem dX8_all_39 : decode cX8_all 39 = .ok (.aload_n 0, 1) := dk_42 (dk_at dksX8_all_1 15 rfl rfl)
theorem dX8_all_40 : decode cX8_all 40 = .ok (.getfield 12, 3) := dk_180 0 12 (dk_at dksX8_all_1 16 rfl rfl)
theorem dX8_all_43 : decode cX8_all 43 = .ok (.aload_n 2, 1) := dk_44 (dk_at dksX8_all_1 19 rfl rfl)
theorem dX8_all_44 : decode cX8_all 44 = .ok (.invokevirtual 50, 3) := dk_182 0 50 (dk_at dksX8_all_1 20 rfl rfl)
theorem dX8_all_47 : decode cX8_all 47 = .ok (.pop, 1) := dk_87 (dk_at dksX8_all_1 23 rfl rfl)
theorem dX8_all_48 : decode cX8_all 48 = .ok (.aload_n 2, 1) := dk_44 (dk_at dksX8_all_2 0 rfl rfl)
theorem dX8_all_49 : decode cX8_all 49 = .ok (.getfield 53, 3) := dk_180 0 53 (dk_at dksX8_all_2 1 rfl rfl)
theorem dX8_all_52 : decode cX8_all 52 = .ok (.getstatic 59, 3) := dk_178 0 59 (dk_at dksX8_all_2 4 rfl rfl)
theorem dX8_all_55 : decode cX8_all 55 = .ok (.if_acmp .ne 8, 3) := dk_166 0 8 (dk_at dksX8_all_2 7 rfl rfl)
theorem dX8_all_58 : decode cX8_all 58 = .ok (.aload_n 0, 1) := dk_42 (dk_at dksX8_all_2 10 rfl rfl)
theorem dX8_all_59 : decode cX8_all 59 = .ok (.getfield 12, 3) := dk_180 0 12 (dk_at dksX8_all_2 11 rfl rfl)
theorem dX8_all_62 : decode cX8_all 62 = .ok (.areturn, 1) := dk_176 (dk_at dksX8_all_2 14 rfl rfl)
theorem dX8_all_63 : decode cX8_all 63 = .ok (.iload_n 1, 1) := dk_27 (dk_at dksX8_all_2 15 rfl rfl)
theorem dX8_all_64 : decode cX8_all 64 = .ok (.aload_n 2, 1) := dk_44 (dk_at dksX8_all_2 16 rfl rfl)
theorem dX8_all_65 : decode cX8_all 65 = .ok (.getfield 64, 3) := dk_180 0 64 (dk_at dksX8_all_2 17 rfl rfl)
theorem dX8_all_68 : decode cX8_all 68 = .ok (.invokevirtual 68, 3) := dk_182 0 68 (dk_at dksX8_all_2 20 rfl rfl)
theorem dX8_all_71 : decode cX8_all 71 = .ok (.iadd, 1) := dk_96 (dk_at dksX8_all_2 23 rfl rfl)
theorem dX8_all_72 : decode cX8_all 72 = .ok (.istore_n 1, 1) := dk_60 (dk_at dksX8_all_3 0 rfl rfl)
theorem dX8_all_73 : decode cX8_all 73 = .ok (.goto (-71), 3) := dk_167 255 185 (dk_at dksX8_all_3 1 rfl rfl)
theorem dX8_all_76 : decode cX8_all 76 = .ok (.aload_n 0, 1) := dk_42 (dk_at dksX8_all_3 4 rfl rfl)
theorem dX8_all_77 : decode cX8_all 77 = .ok (.getfield 12, 3) := dk_180 0 12 (dk_at dksX8_all_3 5 rfl rfl)
theorem dX8_all_80 : decode cX8_all 80 = .ok (.new 54, 3) := dk_187 0 54 (dk_at dksX8_all_3 8 rfl rfl)
theorem dX8_all_83 : decode cX8_all 83 = .ok (.dup, 1) := dk_89 (dk_at dksX8_all_3 11 rfl rfl)
theorem dX8_all_84 : decode cX8_all 84 = .ok (.getstatic 72, 3) := dk_178 0 72 (dk_at dksX8_all_3 12 rfl rfl)
theorem dX8_all_87 : decode cX8_all 87 = .ok (.ldc 75, 2) := dk_18 75 (dk_at dksX8_all_3 15 rfl rfl)
theorem dX8_all_89 : decode cX8_all 89 = .ok (.aload_n 0, 1) := dk_42 (dk_at dksX8_all_3 17 rfl rfl)
theorem dX8_all_90 : decode cX8_all 90 = .ok (.getfield 18, 3) := dk_180 0 18 (dk_at dksX8_all_3 18 rfl rfl)
theorem dX8_all_93 : decode cX8_all 93 = .ok (.getfield 32, 3) := dk_180 0 32 (dk_at dksX8_all_3 21 rfl rfl)
theorem dX8_all_96 : decode cX8_all 96 = .ok (.invokespecial 77, 3) := dk_183 0 77 (dk_at dksX8_all_4 0 rfl rfl)
theorem dX8_all_99 : decode cX8_all 99 = .ok (.invokevirtual 50, 3) := dk_182 0 50 (dk_at dksX8_all_4 3 rfl rfl)
theorem dX8_all_102 : decode cX8_all 102 = .ok (.pop, 1) := dk_87 (dk_at dksX8_all_4 6 rfl rfl)
theorem dX8_all_103 : decode cX8_all 103 = .ok (.aload_n 0, 1) := dk_42 (dk_at dksX8_all_4 7 rfl rfl)
theorem dX8_all_104 : decode cX8_all 104 = .ok (.getfield 12, 3) := dk_180 0 12 (dk_at dksX8_all_4 8 rfl rfl)
theorem dX8_all_107 : decode cX8_all 107 = .ok (.areturn, 1) := dk_176 (dk_at dksX8_all_4 11 rfl rfl)
abbrev cX8_isBlank : ByteArray := prog_16_method_4_code
def yX8_isBlank : MethodName := ⟨RX8, "isBlank", "(I)Z"⟩
def dkwX8_isBlank_0 : List UInt8 := [26, 16, 32, 159, 0, 9, 26, 16, 10, 160, 0, 7, 4, 167, 0, 4, 3, 172]
abbrev dktX8_isBlank_0 : List UInt8 := dkwX8_isBlank_0 ++ []
theorem dksX8_isBlank_0 : cX8_isBlank.data.toList.drop 0 = dktX8_isBlank_0 := by decide +kernel
theorem dX8_isBlank_0 : decode cX8_isBlank 0 = .ok (.iload_n 0, 1) := dk_26 (dk_at dksX8_isBlank_0 0 rfl rfl)
theorem dX8_isBlank_1 : decode cX8_isBlank 1 = .ok (.bipush 32, 2) := dk_16 32 (dk_at dksX8_isBlank_0 1 rfl rfl)
theorem dX8_isBlank_3 : decode cX8_isBlank 3 = .ok (.if_icmp .eq 9, 3) := dk_159 0 9 (dk_at dksX8_isBlank_0 3 rfl rfl)
theorem dX8_isBlank_6 : decode cX8_isBlank 6 = .ok (.iload_n 0, 1) := dk_26 (dk_at dksX8_isBlank_0 6 rfl rfl)
theorem dX8_isBlank_7 : decode cX8_isBlank 7 = .ok (.bipush 10, 2) := dk_16 10 (dk_at dksX8_isBlank_0 7 rfl rfl)
theorem dX8_isBlank_9 : decode cX8_isBlank 9 = .ok (.if_icmp .ne 7, 3) := dk_160 0 7 (dk_at dksX8_isBlank_0 9 rfl rfl)
theorem dX8_isBlank_12 : decode cX8_isBlank 12 = .ok (.iconst 1, 1) := dk_4 (dk_at dksX8_isBlank_0 12 rfl rfl)
theorem dX8_isBlank_13 : decode cX8_isBlank 13 = .ok (.goto 4, 3) := dk_167 0 4 (dk_at dksX8_isBlank_0 13 rfl rfl)
theorem dX8_isBlank_16 : decode cX8_isBlank 16 = .ok (.iconst 0, 1) := dk_3 (dk_at dksX8_isBlank_0 16 rfl rfl)
theorem dX8_isBlank_17 : decode cX8_isBlank 17 = .ok (.ireturn, 1) := dk_172 (dk_at dksX8_isBlank_0 17 rfl rfl)
abbrev cX8_next : ByteArray := prog_16_method_7_code
def yX8_next : MethodName := ⟨RX8, "next", "(I)LGridTable$Token;"⟩
def dkwX8_next_11 : List UInt8 := [180, 0, 18, 27, 29, 182, 0, 88, 27, 183, 0, 77, 176]
abbrev dktX8_next_11 : List UInt8 := dkwX8_next_11 ++ []
def dkwX8_next_10 : List UInt8 := [158, 0, 18, 18, 104, 28, 182, 0, 106, 155, 0, 9, 178, 0, 109, 167, 0, 6, 178, 0, 59, 42]
abbrev dktX8_next_10 : List UInt8 := dkwX8_next_10 ++ dktX8_next_11
def dkwX8_next_9 : List UInt8 := [160, 0, 19, 42, 180, 0, 18, 29, 182, 0, 38, 16, 61, 160, 0, 6, 132, 3, 1, 187, 0, 54, 89, 28]
abbrev dktX8_next_9 : List UInt8 := dkwX8_next_9 ++ dktX8_next_10
def dkwX8_next_8 : List UInt8 := [42, 180, 0, 18, 27, 29, 182, 0, 88, 27, 183, 0, 77, 176, 28, 16, 60, 159, 0, 9, 28, 16, 62]
abbrev dktX8_next_8 : List UInt8 := dkwX8_next_8 ++ dktX8_next_9
def dkwX8_next_7 : List UInt8 := [167, 255, 239, 187, 0, 54, 89, 29, 27, 100, 16, 6, 164, 0, 9, 178, 0, 59, 167, 0, 6, 178, 0, 101]
abbrev dktX8_next_7 : List UInt8 := dkwX8_next_7 ++ dktX8_next_8
def dkwX8_next_6 : List UInt8 := [184, 0, 85, 153, 0, 58, 42, 180, 0, 18, 29, 182, 0, 38, 184, 0, 85, 153, 0, 9, 132, 3, 1]
abbrev dktX8_next_6 : List UInt8 := dkwX8_next_6 ++ dktX8_next_7
def dkwX8_next_5 : List UInt8 := [184, 0, 91, 153, 0, 9, 178, 0, 95, 167, 0, 6, 178, 0, 98, 25, 4, 27, 183, 0, 77, 176, 28]
abbrev dktX8_next_5 : List UInt8 := dkwX8_next_5 ++ dktX8_next_6
def dkwX8_next_4 : List UInt8 := [187, 0, 54, 89, 25, 4, 182, 0, 68, 16, 10, 164, 0, 9, 178, 0, 59, 167, 0, 20, 25, 4]
abbrev dktX8_next_4 : List UInt8 := dkwX8_next_4 ++ dktX8_next_5
def dkwX8_next_3 : List UInt8 := [184, 0, 85, 153, 0, 9, 132, 3, 1, 167, 255, 225, 42, 180, 0, 18, 27, 29, 182, 0, 88, 58, 4]
abbrev dktX8_next_3 : List UInt8 := dkwX8_next_3 ++ dktX8_next_4
def dkwX8_next_2 : List UInt8 := [42, 180, 0, 18, 29, 182, 0, 38, 184, 0, 82, 154, 0, 17, 42, 180, 0, 18, 29, 182, 0, 38]
abbrev dktX8_next_2 : List UInt8 := dkwX8_next_2 ++ dktX8_next_3
def dkwX8_next_1 : List UInt8 := [183, 0, 77, 176, 42, 180, 0, 18, 27, 182, 0, 38, 61, 27, 4, 96, 62, 28, 184, 0, 82, 153, 0, 92]
abbrev dktX8_next_1 : List UInt8 := dkwX8_next_1 ++ dktX8_next_2
def dkwX8_next_0 : List UInt8 := [42, 180, 0, 12, 182, 0, 80, 17, 1, 144, 160, 0, 17, 187, 0, 54, 89, 178, 0, 59, 18, 75, 27]
abbrev dktX8_next_0 : List UInt8 := dkwX8_next_0 ++ dktX8_next_1
theorem dksX8_next_0 : cX8_next.data.toList.drop 0 = dktX8_next_0 := by decide +kernel
theorem dksX8_next_1 : cX8_next.data.toList.drop 23 = dktX8_next_1 := dk_seg dksX8_next_0 23 rfl rfl
theorem dksX8_next_2 : cX8_next.data.toList.drop 47 = dktX8_next_2 := dk_seg dksX8_next_1 24 rfl rfl
theorem dksX8_next_3 : cX8_next.data.toList.drop 69 = dktX8_next_3 := dk_seg dksX8_next_2 22 rfl rfl
theorem dksX8_next_4 : cX8_next.data.toList.drop 92 = dktX8_next_4 := dk_seg dksX8_next_3 23 rfl rfl
theorem dksX8_next_5 : cX8_next.data.toList.drop 114 = dktX8_next_5 := dk_seg dksX8_next_4 22 rfl rfl
theorem dksX8_next_6 : cX8_next.data.toList.drop 137 = dktX8_next_6 := dk_seg dksX8_next_5 23 rfl rfl
theorem dksX8_next_7 : cX8_next.data.toList.drop 160 = dktX8_next_7 := dk_seg dksX8_next_6 23 rfl rfl
theorem dksX8_next_8 : cX8_next.data.toList.drop 184 = dktX8_next_8 := dk_seg dksX8_next_7 24 rfl rfl
theorem dksX8_next_9 : cX8_next.data.toList.drop 207 = dktX8_next_9 := dk_seg dksX8_next_8 23 rfl rfl
theorem dksX8_next_10 : cX8_next.data.toList.drop 231 = dktX8_next_10 := dk_seg dksX8_next_9 24 rfl rfl
theorem dksX8_next_11 : cX8_next.data.toList.drop 253 = dktX8_next_11 := dk_seg dksX8_next_10 22 rfl rfl
theorem dX8_next_0 : decode cX8_next 0 = .ok (.aload_n 0, 1) := dk_42 (dk_at dksX8_next_0 0 rfl rfl)
theorem dX8_next_1 : decode cX8_next 1 = .ok (.getfield 12, 3) := dk_180 0 12 (dk_at dksX8_next_0 1 rfl rfl)
theorem dX8_next_4 : decode cX8_next 4 = .ok (.invokevirtual 80, 3) := dk_182 0 80 (dk_at dksX8_next_0 4 rfl rfl)
theorem dX8_next_7 : decode cX8_next 7 = .ok (.sipush 400, 3) := dk_17 1 144 (dk_at dksX8_next_0 7 rfl rfl)
theorem dX8_next_10 : decode cX8_next 10 = .ok (.if_icmp .ne 17, 3) := dk_160 0 17 (dk_at dksX8_next_0 10 rfl rfl)
theorem dX8_next_13 : decode cX8_next 13 = .ok (.new 54, 3) := dk_187 0 54 (dk_at dksX8_next_0 13 rfl rfl)
theorem dX8_next_16 : decode cX8_next 16 = .ok (.dup, 1) := dk_89 (dk_at dksX8_next_0 16 rfl rfl)
theorem dX8_next_17 : decode cX8_next 17 = .ok (.getstatic 59, 3) := dk_178 0 59 (dk_at dksX8_next_0 17 rfl rfl)
theorem dX8_next_20 : decode cX8_next 20 = .ok (.ldc 75, 2) := dk_18 75 (dk_at dksX8_next_0 20 rfl rfl)
theorem dX8_next_22 : decode cX8_next 22 = .ok (.iload_n 1, 1) := dk_27 (dk_at dksX8_next_0 22 rfl rfl)
theorem dX8_next_23 : decode cX8_next 23 = .ok (.invokespecial 77, 3) := dk_183 0 77 (dk_at dksX8_next_1 0 rfl rfl)
theorem dX8_next_26 : decode cX8_next 26 = .ok (.areturn, 1) := dk_176 (dk_at dksX8_next_1 3 rfl rfl)
theorem dX8_next_27 : decode cX8_next 27 = .ok (.aload_n 0, 1) := dk_42 (dk_at dksX8_next_1 4 rfl rfl)
theorem dX8_next_28 : decode cX8_next 28 = .ok (.getfield 18, 3) := dk_180 0 18 (dk_at dksX8_next_1 5 rfl rfl)
theorem dX8_next_31 : decode cX8_next 31 = .ok (.iload_n 1, 1) := dk_27 (dk_at dksX8_next_1 8 rfl rfl)
theorem dX8_next_32 : decode cX8_next 32 = .ok (.invokevirtual 38, 3) := dk_182 0 38 (dk_at dksX8_next_1 9 rfl rfl)
theorem dX8_next_35 : decode cX8_next 35 = .ok (.istore_n 2, 1) := dk_61 (dk_at dksX8_next_1 12 rfl rfl)
theorem dX8_next_36 : decode cX8_next 36 = .ok (.iload_n 1, 1) := dk_27 (dk_at dksX8_next_1 13 rfl rfl)
theorem dX8_next_37 : decode cX8_next 37 = .ok (.iconst 1, 1) := dk_4 (dk_at dksX8_next_1 14 rfl rfl)
theorem dX8_next_38 : decode cX8_next 38 = .ok (.iadd, 1) := dk_96 (dk_at dksX8_next_1 15 rfl rfl)
theorem dX8_next_39 : decode cX8_next 39 = .ok (.istore_n 3, 1) := dk_62 (dk_at dksX8_next_1 16 rfl rfl)
theorem dX8_next_40 : decode cX8_next 40 = .ok (.iload_n 2, 1) := dk_28 (dk_at dksX8_next_1 17 rfl rfl)
theorem dX8_next_41 : decode cX8_next 41 = .ok (.invokestatic 82, 3) := dk_184 0 82 (dk_at dksX8_next_1 18 rfl rfl)
theorem dX8_next_44 : decode cX8_next 44 = .ok (.ifCond .eq 92, 3) := dk_153 0 92 (dk_at dksX8_next_1 21 rfl rfl)
theorem dX8_next_47 : decode cX8_next 47 = .ok (.aload_n 0, 1) := dk_42 (dk_at dksX8_next_2 0 rfl rfl)
theorem dX8_next_48 : decode cX8_next 48 = .ok (.getfield 18, 3) := dk_180 0 18 (dk_at dksX8_next_2 1 rfl rfl)
theorem dX8_next_51 : decode cX8_next 51 = .ok (.iload_n 3, 1) := dk_29 (dk_at dksX8_next_2 4 rfl rfl)
theorem dX8_next_52 : decode cX8_next 52 = .ok (.invokevirtual 38, 3) := dk_182 0 38 (dk_at dksX8_next_2 5 rfl rfl)
theorem dX8_next_55 : decode cX8_next 55 = .ok (.invokestatic 82, 3) := dk_184 0 82 (dk_at dksX8_next_2 8 rfl rfl)
theorem dX8_next_58 : decode cX8_next 58 = .ok (.ifCond .ne 17, 3) := dk_154 0 17 (dk_at dksX8_next_2 11 rfl rfl)
theorem dX8_next_61 : decode cX8_next 61 = .ok (.aload_n 0, 1) := dk_42 (dk_at dksX8_next_2 14 rfl rfl)
theorem dX8_next_62 : decode cX8_next 62 = .ok (.getfield 18, 3) := dk_180 0 18 (dk_at dksX8_next_2 15 rfl rfl)
theorem dX8_next_65 : decode cX8_next 65 = .ok (.iload_n 3, 1) := dk_29 (dk_at dksX8_next_2 18 rfl rfl)
theorem dX8_next_66 : decode cX8_next 66 = .ok (.invokevirtual 38, 3) := dk_182 0 38 (dk_at dksX8_next_2 19 rfl rfl)
theorem dX8_next_69 : decode cX8_next 69 = .ok (.invokestatic 85, 3) := dk_184 0 85 (dk_at dksX8_next_3 0 rfl rfl)
theorem dX8_next_72 : decode cX8_next 72 = .ok (.ifCond .eq 9, 3) := dk_153 0 9 (dk_at dksX8_next_3 3 rfl rfl)
theorem dX8_next_75 : decode cX8_next 75 = .ok (.iinc 3 1, 3) := dk_132 3 1 (dk_at dksX8_next_3 6 rfl rfl)
theorem dX8_next_78 : decode cX8_next 78 = .ok (.goto (-31), 3) := dk_167 255 225 (dk_at dksX8_next_3 9 rfl rfl)
theorem dX8_next_81 : decode cX8_next 81 = .ok (.aload_n 0, 1) := dk_42 (dk_at dksX8_next_3 12 rfl rfl)
theorem dX8_next_82 : decode cX8_next 82 = .ok (.getfield 18, 3) := dk_180 0 18 (dk_at dksX8_next_3 13 rfl rfl)
theorem dX8_next_85 : decode cX8_next 85 = .ok (.iload_n 1, 1) := dk_27 (dk_at dksX8_next_3 16 rfl rfl)
theorem dX8_next_86 : decode cX8_next 86 = .ok (.iload_n 3, 1) := dk_29 (dk_at dksX8_next_3 17 rfl rfl)
theorem dX8_next_87 : decode cX8_next 87 = .ok (.invokevirtual 88, 3) := dk_182 0 88 (dk_at dksX8_next_3 18 rfl rfl)
theorem dX8_next_90 : decode cX8_next 90 = .ok (.astore 4, 2) := dk_58 4 (dk_at dksX8_next_3 21 rfl rfl)
theorem dX8_next_92 : decode cX8_next 92 = .ok (.new 54, 3) := dk_187 0 54 (dk_at dksX8_next_4 0 rfl rfl)
theorem dX8_next_95 : decode cX8_next 95 = .ok (.dup, 1) := dk_89 (dk_at dksX8_next_4 3 rfl rfl)
theorem dX8_next_96 : decode cX8_next 96 = .ok (.aload 4, 2) := dk_25 4 (dk_at dksX8_next_4 4 rfl rfl)
theorem dX8_next_98 : decode cX8_next 98 = .ok (.invokevirtual 68, 3) := dk_182 0 68 (dk_at dksX8_next_4 6 rfl rfl)
theorem dX8_next_101 : decode cX8_next 101 = .ok (.bipush 10, 2) := dk_16 10 (dk_at dksX8_next_4 9 rfl rfl)
theorem dX8_next_103 : decode cX8_next 103 = .ok (.if_icmp .le 9, 3) := dk_164 0 9 (dk_at dksX8_next_4 11 rfl rfl)
theorem dX8_next_106 : decode cX8_next 106 = .ok (.getstatic 59, 3) := dk_178 0 59 (dk_at dksX8_next_4 14 rfl rfl)
theorem dX8_next_109 : decode cX8_next 109 = .ok (.goto 20, 3) := dk_167 0 20 (dk_at dksX8_next_4 17 rfl rfl)
theorem dX8_next_112 : decode cX8_next 112 = .ok (.aload 4, 2) := dk_25 4 (dk_at dksX8_next_4 20 rfl rfl)
theorem dX8_next_114 : decode cX8_next 114 = .ok (.invokestatic 91, 3) := dk_184 0 91 (dk_at dksX8_next_5 0 rfl rfl)
theorem dX8_next_117 : decode cX8_next 117 = .ok (.ifCond .eq 9, 3) := dk_153 0 9 (dk_at dksX8_next_5 3 rfl rfl)
theorem dX8_next_120 : decode cX8_next 120 = .ok (.getstatic 95, 3) := dk_178 0 95 (dk_at dksX8_next_5 6 rfl rfl)
theorem dX8_next_123 : decode cX8_next 123 = .ok (.goto 6, 3) := dk_167 0 6 (dk_at dksX8_next_5 9 rfl rfl)
theorem dX8_next_126 : decode cX8_next 126 = .ok (.getstatic 98, 3) := dk_178 0 98 (dk_at dksX8_next_5 12 rfl rfl)
theorem dX8_next_129 : decode cX8_next 129 = .ok (.aload 4, 2) := dk_25 4 (dk_at dksX8_next_5 15 rfl rfl)
theorem dX8_next_131 : decode cX8_next 131 = .ok (.iload_n 1, 1) := dk_27 (dk_at dksX8_next_5 17 rfl rfl)
theorem dX8_next_132 : decode cX8_next 132 = .ok (.invokespecial 77, 3) := dk_183 0 77 (dk_at dksX8_next_5 18 rfl rfl)
theorem dX8_next_135 : decode cX8_next 135 = .ok (.areturn, 1) := dk_176 (dk_at dksX8_next_5 21 rfl rfl)
theorem dX8_next_136 : decode cX8_next 136 = .ok (.iload_n 2, 1) := dk_28 (dk_at dksX8_next_5 22 rfl rfl)
theorem dX8_next_137 : decode cX8_next 137 = .ok (.invokestatic 85, 3) := dk_184 0 85 (dk_at dksX8_next_6 0 rfl rfl)
theorem dX8_next_140 : decode cX8_next 140 = .ok (.ifCond .eq 58, 3) := dk_153 0 58 (dk_at dksX8_next_6 3 rfl rfl)
theorem dX8_next_143 : decode cX8_next 143 = .ok (.aload_n 0, 1) := dk_42 (dk_at dksX8_next_6 6 rfl rfl)
theorem dX8_next_144 : decode cX8_next 144 = .ok (.getfield 18, 3) := dk_180 0 18 (dk_at dksX8_next_6 7 rfl rfl)
theorem dX8_next_147 : decode cX8_next 147 = .ok (.iload_n 3, 1) := dk_29 (dk_at dksX8_next_6 10 rfl rfl)
theorem dX8_next_148 : decode cX8_next 148 = .ok (.invokevirtual 38, 3) := dk_182 0 38 (dk_at dksX8_next_6 11 rfl rfl)
theorem dX8_next_151 : decode cX8_next 151 = .ok (.invokestatic 85, 3) := dk_184 0 85 (dk_at dksX8_next_6 14 rfl rfl)
theorem dX8_next_154 : decode cX8_next 154 = .ok (.ifCond .eq 9, 3) := dk_153 0 9 (dk_at dksX8_next_6 17 rfl rfl)
theorem dX8_next_157 : decode cX8_next 157 = .ok (.iinc 3 1, 3) := dk_132 3 1 (dk_at dksX8_next_6 20 rfl rfl)
theorem dX8_next_160 : decode cX8_next 160 = .ok (.goto (-17), 3) := dk_167 255 239 (dk_at dksX8_next_7 0 rfl rfl)
theorem dX8_next_163 : decode cX8_next 163 = .ok (.new 54, 3) := dk_187 0 54 (dk_at dksX8_next_7 3 rfl rfl)
theorem dX8_next_166 : decode cX8_next 166 = .ok (.dup, 1) := dk_89 (dk_at dksX8_next_7 6 rfl rfl)
theorem dX8_next_167 : decode cX8_next 167 = .ok (.iload_n 3, 1) := dk_29 (dk_at dksX8_next_7 7 rfl rfl)
theorem dX8_next_168 : decode cX8_next 168 = .ok (.iload_n 1, 1) := dk_27 (dk_at dksX8_next_7 8 rfl rfl)
theorem dX8_next_169 : decode cX8_next 169 = .ok (.isub, 1) := dk_100 (dk_at dksX8_next_7 9 rfl rfl)
theorem dX8_next_170 : decode cX8_next 170 = .ok (.bipush 6, 2) := dk_16 6 (dk_at dksX8_next_7 10 rfl rfl)
theorem dX8_next_172 : decode cX8_next 172 = .ok (.if_icmp .le 9, 3) := dk_164 0 9 (dk_at dksX8_next_7 12 rfl rfl)
theorem dX8_next_175 : decode cX8_next 175 = .ok (.getstatic 59, 3) := dk_178 0 59 (dk_at dksX8_next_7 15 rfl rfl)
theorem dX8_next_178 : decode cX8_next 178 = .ok (.goto 6, 3) := dk_167 0 6 (dk_at dksX8_next_7 18 rfl rfl)
theorem dX8_next_181 : decode cX8_next 181 = .ok (.getstatic 101, 3) := dk_178 0 101 (dk_at dksX8_next_7 21 rfl rfl)
theorem dX8_next_184 : decode cX8_next 184 = .ok (.aload_n 0, 1) := dk_42 (dk_at dksX8_next_8 0 rfl rfl)
theorem dX8_next_185 : decode cX8_next 185 = .ok (.getfield 18, 3) := dk_180 0 18 (dk_at dksX8_next_8 1 rfl rfl)
theorem dX8_next_188 : decode cX8_next 188 = .ok (.iload_n 1, 1) := dk_27 (dk_at dksX8_next_8 4 rfl rfl)
theorem dX8_next_189 : decode cX8_next 189 = .ok (.iload_n 3, 1) := dk_29 (dk_at dksX8_next_8 5 rfl rfl)
theorem dX8_next_190 : decode cX8_next 190 = .ok (.invokevirtual 88, 3) := dk_182 0 88 (dk_at dksX8_next_8 6 rfl rfl)
theorem dX8_next_193 : decode cX8_next 193 = .ok (.iload_n 1, 1) := dk_27 (dk_at dksX8_next_8 9 rfl rfl)
theorem dX8_next_194 : decode cX8_next 194 = .ok (.invokespecial 77, 3) := dk_183 0 77 (dk_at dksX8_next_8 10 rfl rfl)
theorem dX8_next_197 : decode cX8_next 197 = .ok (.areturn, 1) := dk_176 (dk_at dksX8_next_8 13 rfl rfl)
theorem dX8_next_198 : decode cX8_next 198 = .ok (.iload_n 2, 1) := dk_28 (dk_at dksX8_next_8 14 rfl rfl)
theorem dX8_next_199 : decode cX8_next 199 = .ok (.bipush 60, 2) := dk_16 60 (dk_at dksX8_next_8 15 rfl rfl)
theorem dX8_next_201 : decode cX8_next 201 = .ok (.if_icmp .eq 9, 3) := dk_159 0 9 (dk_at dksX8_next_8 17 rfl rfl)
theorem dX8_next_204 : decode cX8_next 204 = .ok (.iload_n 2, 1) := dk_28 (dk_at dksX8_next_8 20 rfl rfl)
theorem dX8_next_205 : decode cX8_next 205 = .ok (.bipush 62, 2) := dk_16 62 (dk_at dksX8_next_8 21 rfl rfl)
theorem dX8_next_207 : decode cX8_next 207 = .ok (.if_icmp .ne 19, 3) := dk_160 0 19 (dk_at dksX8_next_9 0 rfl rfl)
theorem dX8_next_210 : decode cX8_next 210 = .ok (.aload_n 0, 1) := dk_42 (dk_at dksX8_next_9 3 rfl rfl)
theorem dX8_next_211 : decode cX8_next 211 = .ok (.getfield 18, 3) := dk_180 0 18 (dk_at dksX8_next_9 4 rfl rfl)
theorem dX8_next_214 : decode cX8_next 214 = .ok (.iload_n 3, 1) := dk_29 (dk_at dksX8_next_9 7 rfl rfl)
theorem dX8_next_215 : decode cX8_next 215 = .ok (.invokevirtual 38, 3) := dk_182 0 38 (dk_at dksX8_next_9 8 rfl rfl)
theorem dX8_next_218 : decode cX8_next 218 = .ok (.bipush 61, 2) := dk_16 61 (dk_at dksX8_next_9 11 rfl rfl)
theorem dX8_next_220 : decode cX8_next 220 = .ok (.if_icmp .ne 6, 3) := dk_160 0 6 (dk_at dksX8_next_9 13 rfl rfl)
theorem dX8_next_223 : decode cX8_next 223 = .ok (.iinc 3 1, 3) := dk_132 3 1 (dk_at dksX8_next_9 16 rfl rfl)
theorem dX8_next_226 : decode cX8_next 226 = .ok (.new 54, 3) := dk_187 0 54 (dk_at dksX8_next_9 19 rfl rfl)
theorem dX8_next_229 : decode cX8_next 229 = .ok (.dup, 1) := dk_89 (dk_at dksX8_next_9 22 rfl rfl)
theorem dX8_next_230 : decode cX8_next 230 = .ok (.iload_n 2, 1) := dk_28 (dk_at dksX8_next_9 23 rfl rfl)
theorem dX8_next_231 : decode cX8_next 231 = .ok (.ifCond .le 18, 3) := dk_158 0 18 (dk_at dksX8_next_10 0 rfl rfl)
theorem dX8_next_234 : decode cX8_next 234 = .ok (.ldc 104, 2) := dk_18 104 (dk_at dksX8_next_10 3 rfl rfl)
theorem dX8_next_236 : decode cX8_next 236 = .ok (.iload_n 2, 1) := dk_28 (dk_at dksX8_next_10 5 rfl rfl)
theorem dX8_next_237 : decode cX8_next 237 = .ok (.invokevirtual 106, 3) := dk_182 0 106 (dk_at dksX8_next_10 6 rfl rfl)
theorem dX8_next_240 : decode cX8_next 240 = .ok (.ifCond .lt 9, 3) := dk_155 0 9 (dk_at dksX8_next_10 9 rfl rfl)
theorem dX8_next_243 : decode cX8_next 243 = .ok (.getstatic 109, 3) := dk_178 0 109 (dk_at dksX8_next_10 12 rfl rfl)
theorem dX8_next_246 : decode cX8_next 246 = .ok (.goto 6, 3) := dk_167 0 6 (dk_at dksX8_next_10 15 rfl rfl)
theorem dX8_next_249 : decode cX8_next 249 = .ok (.getstatic 59, 3) := dk_178 0 59 (dk_at dksX8_next_10 18 rfl rfl)
theorem dX8_next_252 : decode cX8_next 252 = .ok (.aload_n 0, 1) := dk_42 (dk_at dksX8_next_10 21 rfl rfl)
theorem dX8_next_253 : decode cX8_next 253 = .ok (.getfield 18, 3) := dk_180 0 18 (dk_at dksX8_next_11 0 rfl rfl)
theorem dX8_next_256 : decode cX8_next 256 = .ok (.iload_n 1, 1) := dk_27 (dk_at dksX8_next_11 3 rfl rfl)
theorem dX8_next_257 : decode cX8_next 257 = .ok (.iload_n 3, 1) := dk_29 (dk_at dksX8_next_11 4 rfl rfl)
theorem dX8_next_258 : decode cX8_next 258 = .ok (.invokevirtual 88, 3) := dk_182 0 88 (dk_at dksX8_next_11 5 rfl rfl)
theorem dX8_next_261 : decode cX8_next 261 = .ok (.iload_n 1, 1) := dk_27 (dk_at dksX8_next_11 8 rfl rfl)
theorem dX8_next_262 : decode cX8_next 262 = .ok (.invokespecial 77, 3) := dk_183 0 77 (dk_at dksX8_next_11 9 rfl rfl)
theorem dX8_next_265 : decode cX8_next 265 = .ok (.areturn, 1) := dk_176 (dk_at dksX8_next_11 12 rfl rfl)
abbrev cX8_isLetter : ByteArray := prog_16_method_2_code
def yX8_isLetter : MethodName := ⟨RX8, "isLetter", "(I)Z"⟩
def dkwX8_isLetter_0 : List UInt8 := [26, 16, 97, 161, 0, 13, 26, 16, 122, 163, 0, 7, 4, 167, 0, 4, 3, 172]
abbrev dktX8_isLetter_0 : List UInt8 := dkwX8_isLetter_0 ++ []
theorem dksX8_isLetter_0 : cX8_isLetter.data.toList.drop 0 = dktX8_isLetter_0 := by decide +kernel
theorem dX8_isLetter_0 : decode cX8_isLetter 0 = .ok (.iload_n 0, 1) := dk_26 (dk_at dksX8_isLetter_0 0 rfl rfl)
theorem dX8_isLetter_1 : decode cX8_isLetter 1 = .ok (.bipush 97, 2) := dk_16 97 (dk_at dksX8_isLetter_0 1 rfl rfl)
theorem dX8_isLetter_3 : decode cX8_isLetter 3 = .ok (.if_icmp .lt 13, 3) := dk_161 0 13 (dk_at dksX8_isLetter_0 3 rfl rfl)
theorem dX8_isLetter_6 : decode cX8_isLetter 6 = .ok (.iload_n 0, 1) := dk_26 (dk_at dksX8_isLetter_0 6 rfl rfl)
theorem dX8_isLetter_7 : decode cX8_isLetter 7 = .ok (.bipush 122, 2) := dk_16 122 (dk_at dksX8_isLetter_0 7 rfl rfl)
theorem dX8_isLetter_9 : decode cX8_isLetter 9 = .ok (.if_icmp .gt 7, 3) := dk_163 0 7 (dk_at dksX8_isLetter_0 9 rfl rfl)
theorem dX8_isLetter_12 : decode cX8_isLetter 12 = .ok (.iconst 1, 1) := dk_4 (dk_at dksX8_isLetter_0 12 rfl rfl)
theorem dX8_isLetter_13 : decode cX8_isLetter 13 = .ok (.goto 4, 3) := dk_167 0 4 (dk_at dksX8_isLetter_0 13 rfl rfl)
theorem dX8_isLetter_16 : decode cX8_isLetter 16 = .ok (.iconst 0, 1) := dk_3 (dk_at dksX8_isLetter_0 16 rfl rfl)
theorem dX8_isLetter_17 : decode cX8_isLetter 17 = .ok (.ireturn, 1) := dk_172 (dk_at dksX8_isLetter_0 17 rfl rfl)
abbrev cX8_isDigit : ByteArray := prog_16_method_3_code
def yX8_isDigit : MethodName := ⟨RX8, "isDigit", "(I)Z"⟩
def dkwX8_isDigit_0 : List UInt8 := [26, 16, 48, 161, 0, 13, 26, 16, 57, 163, 0, 7, 4, 167, 0, 4, 3, 172]
abbrev dktX8_isDigit_0 : List UInt8 := dkwX8_isDigit_0 ++ []
theorem dksX8_isDigit_0 : cX8_isDigit.data.toList.drop 0 = dktX8_isDigit_0 := by decide +kernel
theorem dX8_isDigit_0 : decode cX8_isDigit 0 = .ok (.iload_n 0, 1) := dk_26 (dk_at dksX8_isDigit_0 0 rfl rfl)
theorem dX8_isDigit_1 : decode cX8_isDigit 1 = .ok (.bipush 48, 2) := dk_16 48 (dk_at dksX8_isDigit_0 1 rfl rfl)
theorem dX8_isDigit_3 : decode cX8_isDigit 3 = .ok (.if_icmp .lt 13, 3) := dk_161 0 13 (dk_at dksX8_isDigit_0 3 rfl rfl)
theorem dX8_isDigit_6 : decode cX8_isDigit 6 = .ok (.iload_n 0, 1) := dk_26 (dk_at dksX8_isDigit_0 6 rfl rfl)
theorem dX8_isDigit_7 : decode cX8_isDigit 7 = .ok (.bipush 57, 2) := dk_16 57 (dk_at dksX8_isDigit_0 7 rfl rfl)
theorem dX8_isDigit_9 : decode cX8_isDigit 9 = .ok (.if_icmp .gt 7, 3) := dk_163 0 7 (dk_at dksX8_isDigit_0 9 rfl rfl)
theorem dX8_isDigit_12 : decode cX8_isDigit 12 = .ok (.iconst 1, 1) := dk_4 (dk_at dksX8_isDigit_0 12 rfl rfl)
theorem dX8_isDigit_13 : decode cX8_isDigit 13 = .ok (.goto 4, 3) := dk_167 0 4 (dk_at dksX8_isDigit_0 13 rfl rfl)
theorem dX8_isDigit_16 : decode cX8_isDigit 16 = .ok (.iconst 0, 1) := dk_3 (dk_at dksX8_isDigit_0 16 rfl rfl)
theorem dX8_isDigit_17 : decode cX8_isDigit 17 = .ok (.ireturn, 1) := dk_172 (dk_at dksX8_isDigit_0 17 rfl rfl)
abbrev cX8_isKey : ByteArray := prog_16_method_5_code
def yX8_isKey : MethodName := ⟨RX8, "isKey", "(Ljava/lang/String;)Z"⟩
def dkwX8_isKey_1 : List UInt8 := [182, 0, 26, 153, 0, 5, 4, 172, 132, 3, 1, 167, 255, 232, 3, 172]
abbrev dktX8_isKey_1 : List UInt8 := dkwX8_isKey_1 ++ []
def dkwX8_isKey_0 : List UInt8 := [178, 0, 22, 76, 43, 190, 61, 3, 62, 29, 28, 162, 0, 25, 43, 29, 50, 58, 4, 25, 4, 42]
abbrev dktX8_isKey_0 : List UInt8 := dkwX8_isKey_0 ++ dktX8_isKey_1
theorem dksX8_isKey_0 : cX8_isKey.data.toList.drop 0 = dktX8_isKey_0 := by decide +kernel
theorem dksX8_isKey_1 : cX8_isKey.data.toList.drop 22 = dktX8_isKey_1 := dk_seg dksX8_isKey_0 22 rfl rfl
theorem dX8_isKey_0 : decode cX8_isKey 0 = .ok (.getstatic 22, 3) := dk_178 0 22 (dk_at dksX8_isKey_0 0 rfl rfl)
theorem dX8_isKey_3 : decode cX8_isKey 3 = .ok (.astore_n 1, 1) := dk_76 (dk_at dksX8_isKey_0 3 rfl rfl)
theorem dX8_isKey_4 : decode cX8_isKey 4 = .ok (.aload_n 1, 1) := dk_43 (dk_at dksX8_isKey_0 4 rfl rfl)
theorem dX8_isKey_5 : decode cX8_isKey 5 = .ok (.arraylength, 1) := dk_190 (dk_at dksX8_isKey_0 5 rfl rfl)
theorem dX8_isKey_6 : decode cX8_isKey 6 = .ok (.istore_n 2, 1) := dk_61 (dk_at dksX8_isKey_0 6 rfl rfl)
theorem dX8_isKey_7 : decode cX8_isKey 7 = .ok (.iconst 0, 1) := dk_3 (dk_at dksX8_isKey_0 7 rfl rfl)
theorem dX8_isKey_8 : decode cX8_isKey 8 = .ok (.istore_n 3, 1) := dk_62 (dk_at dksX8_isKey_0 8 rfl rfl)
theorem dX8_isKey_9 : decode cX8_isKey 9 = .ok (.iload_n 3, 1) := dk_29 (dk_at dksX8_isKey_0 9 rfl rfl)
theorem dX8_isKey_10 : decode cX8_isKey 10 = .ok (.iload_n 2, 1) := dk_28 (dk_at dksX8_isKey_0 10 rfl rfl)
theorem dX8_isKey_11 : decode cX8_isKey 11 = .ok (.if_icmp .ge 25, 3) := dk_162 0 25 (dk_at dksX8_isKey_0 11 rfl rfl)
theorem dX8_isKey_14 : decode cX8_isKey 14 = .ok (.aload_n 1, 1) := dk_43 (dk_at dksX8_isKey_0 14 rfl rfl)
theorem dX8_isKey_15 : decode cX8_isKey 15 = .ok (.iload_n 3, 1) := dk_29 (dk_at dksX8_isKey_0 15 rfl rfl)
theorem dX8_isKey_16 : decode cX8_isKey 16 = .ok (.aaload, 1) := dk_50 (dk_at dksX8_isKey_0 16 rfl rfl)
theorem dX8_isKey_17 : decode cX8_isKey 17 = .ok (.astore 4, 2) := dk_58 4 (dk_at dksX8_isKey_0 17 rfl rfl)
theorem dX8_isKey_19 : decode cX8_isKey 19 = .ok (.aload 4, 2) := dk_25 4 (dk_at dksX8_isKey_0 19 rfl rfl)
theorem dX8_isKey_21 : decode cX8_isKey 21 = .ok (.aload_n 0, 1) := dk_42 (dk_at dksX8_isKey_0 21 rfl rfl)
theorem dX8_isKey_22 : decode cX8_isKey 22 = .ok (.invokevirtual 26, 3) := dk_182 0 26 (dk_at dksX8_isKey_1 0 rfl rfl)
theorem dX8_isKey_25 : decode cX8_isKey 25 = .ok (.ifCond .eq 5, 3) := dk_153 0 5 (dk_at dksX8_isKey_1 3 rfl rfl)
theorem dX8_isKey_28 : decode cX8_isKey 28 = .ok (.iconst 1, 1) := dk_4 (dk_at dksX8_isKey_1 6 rfl rfl)
theorem dX8_isKey_29 : decode cX8_isKey 29 = .ok (.ireturn, 1) := dk_172 (dk_at dksX8_isKey_1 7 rfl rfl)
theorem dX8_isKey_30 : decode cX8_isKey 30 = .ok (.iinc 3 1, 3) := dk_132 3 1 (dk_at dksX8_isKey_1 8 rfl rfl)
theorem dX8_isKey_33 : decode cX8_isKey 33 = .ok (.goto (-24), 3) := dk_167 255 232 (dk_at dksX8_isKey_1 11 rfl rfl)
theorem dX8_isKey_36 : decode cX8_isKey 36 = .ok (.iconst 0, 1) := dk_3 (dk_at dksX8_isKey_1 14 rfl rfl)
theorem dX8_isKey_37 : decode cX8_isKey 37 = .ok (.ireturn, 1) := dk_172 (dk_at dksX8_isKey_1 15 rfl rfl)
theorem q127 : (Jvm.Cond.initialized "GridTable$Scanner") ∈ lw_all := lw_g (lw_at lw_m1 16 rfl) rfl
theorem q193 : (Jvm.Cond.fieldLinkNest "GridTable$Scanner" (32 : Nat) "GridTable$Tape" "size" "I" "GridTable") ∈ lw_tbl := lw_at lw_m1 82 rfl
theorem q307 : (Jvm.Cond.instantiable "GridTable$Scanner" (2 : Nat)) ∈ lw_all := lw_g (lw_at lw_m1 196 rfl) rfl
theorem q309 : (Jvm.Cond.instanceMethod ({ cls := "GridTable$Scanner", name := "<init>", desc := "(LGridTable$Tape;)V" } : Jvm.MethodName)) ∈ lw_all := lw_g (lw_at lw_m1 198 rfl) rfl
theorem q310 : (Jvm.Cond.code ({ cls := "GridTable$Scanner", name := "<init>", desc := "(LGridTable$Tape;)V" } : Jvm.MethodName) prog_16_method_1_code (2 : Nat) (Option.none : Option Jvm.ClassFile.FieldType)) ∈ lw_all := lw_g (lw_at lw_m1 199 rfl) rfl
theorem q311 : (Jvm.Cond.methodLink "GridTable$Scanner" (3 : Nat) ({ cls := "java/lang/Object", name := "<init>", desc := "()V" } : Jvm.MethodName)) ∈ lw_all := lw_g (lw_at lw_m1 200 rfl) rfl
theorem q312 : (Jvm.Cond.classLink "GridTable$Scanner" (9 : Nat) "java/util/ArrayList") ∈ lw_all := lw_g (lw_at lw_m1 201 rfl) rfl
theorem q313 : (Jvm.Cond.methodLink "GridTable$Scanner" (11 : Nat) ({ cls := "java/util/ArrayList", name := "<init>", desc := "()V" } : Jvm.MethodName)) ∈ lw_all := lw_g (lw_at lw_m1 202 rfl) rfl
theorem q314 : (Jvm.Cond.fieldLink "GridTable$Scanner" (18 : Nat) "GridTable$Scanner" "tape" "LGridTable$Tape;") ∈ lw_all := lw_g (lw_at lw_m1 203 rfl) rfl
theorem q315 : (Jvm.Cond.fieldLink "GridTable$Scanner" (12 : Nat) "GridTable$Scanner" "tokens" "Ljava/util/ArrayList;") ∈ lw_all := lw_g (lw_at lw_m1 204 rfl) rfl
theorem q316 : (Jvm.Cond.laysFinal "GridTable$Scanner" "GridTable$Scanner" "tape" "LGridTable$Tape;") ∈ lw_all := lw_g (lw_at lw_m1 205 rfl) rfl
theorem q317 : (Jvm.Cond.soleField "GridTable$Scanner" "tape") ∈ lw_all := lw_g (lw_at lw_m1 206 rfl) rfl
theorem q318 : (Jvm.Cond.laysFinal "GridTable$Scanner" "GridTable$Scanner" "tokens" "Ljava/util/ArrayList;") ∈ lw_all := lw_g (lw_at lw_m1 207 rfl) rfl
theorem q319 : (Jvm.Cond.soleField "GridTable$Scanner" "tokens") ∈ lw_all := lw_g (lw_at lw_m1 208 rfl) rfl
theorem q320 : (Jvm.Cond.superclass "GridTable$Scanner" "java/lang/Object") ∈ lw_all := lw_g (lw_at lw_m1 209 rfl) rfl
theorem q322 : (Jvm.Cond.instanceMethod ({ cls := "GridTable$Scanner", name := "all", desc := "()Ljava/util/List;" } : Jvm.MethodName)) ∈ lw_all := lw_g (lw_at lw_m1 211 rfl) rfl
theorem q323 : (Jvm.Cond.selects "GridTable$Scanner" ({ cls := "GridTable$Scanner", name := "all", desc := "()Ljava/util/List;" } : Jvm.MethodName) ({ cls := "GridTable$Scanner", name := "all", desc := "()Ljava/util/List;" } : Jvm.MethodName)) ∈ lw_all := lw_g (lw_at lw_m1 212 rfl) rfl
theorem q324 : (Jvm.Cond.code ({ cls := "GridTable$Scanner", name := "all", desc := "()Ljava/util/List;" } : Jvm.MethodName) prog_16_method_6_code (3 : Nat) (Option.some (Jvm.ClassFile.FieldType.object "java/util/List"))) ∈ lw_all := lw_g (lw_at lw_m1 213 rfl) rfl
theorem q325 : (Jvm.Cond.methodLink "GridTable$Scanner" (38 : Nat) ({ cls := "GridTable$Tape", name := "at", desc := "(I)I" } : Jvm.MethodName)) ∈ lw_all := lw_g (lw_at lw_m1 214 rfl) rfl
theorem q329 : (Jvm.Cond.methodLink "GridTable$Scanner" (42 : Nat) ({ cls := "GridTable$Scanner", name := "isBlank", desc := "(I)Z" } : Jvm.MethodName)) ∈ lw_all := lw_g (lw_at lw_m1 218 rfl) rfl
theorem q330 : (Jvm.Cond.static ({ cls := "GridTable$Scanner", name := "isBlank", desc := "(I)Z" } : Jvm.MethodName)) ∈ lw_all := lw_g (lw_at lw_m1 219 rfl) rfl
theorem q331 : (Jvm.Cond.code ({ cls := "GridTable$Scanner", name := "isBlank", desc := "(I)Z" } : Jvm.MethodName) prog_16_method_4_code (1 : Nat) (Option.some Jvm.ClassFile.FieldType.boolean)) ∈ lw_all := lw_g (lw_at lw_m1 220 rfl) rfl
theorem q332 : (Jvm.Cond.methodLink "GridTable$Scanner" (46 : Nat) ({ cls := "GridTable$Scanner", name := "next", desc := "(I)LGridTable$Token;" } : Jvm.MethodName)) ∈ lw_all := lw_g (lw_at lw_m1 221 rfl) rfl
theorem q333 : (Jvm.Cond.privateMethod ({ cls := "GridTable$Scanner", name := "next", desc := "(I)LGridTable$Token;" } : Jvm.MethodName)) ∈ lw_tbl := lw_at lw_m1 222 rfl
theorem q334 : (Jvm.Cond.instanceMethod ({ cls := "GridTable$Scanner", name := "next", desc := "(I)LGridTable$Token;" } : Jvm.MethodName)) ∈ lw_all := lw_g (lw_at lw_m1 223 rfl) rfl
theorem q335 : (Jvm.Cond.code ({ cls := "GridTable$Scanner", name := "next", desc := "(I)LGridTable$Token;" } : Jvm.MethodName) prog_16_method_7_code (5 : Nat) (Option.some (Jvm.ClassFile.FieldType.object "GridTable$Token"))) ∈ lw_all := lw_g (lw_at lw_m1 224 rfl) rfl
theorem q336 : (Jvm.Cond.methodLink "GridTable$Scanner" (80 : Nat) ({ cls := "java/util/ArrayList", name := "size", desc := "()I" } : Jvm.MethodName)) ∈ lw_all := lw_g (lw_at lw_m1 225 rfl) rfl
theorem q340 : (Jvm.Cond.classLink "GridTable$Scanner" (54 : Nat) "GridTable$Token") ∈ lw_all := lw_g (lw_at lw_m1 229 rfl) rfl
theorem q342 : (Jvm.Cond.fieldLink "GridTable$Scanner" (59 : Nat) "GridTable$Sort" "BAD" "LGridTable$Sort;") ∈ lw_all := lw_g (lw_at lw_m1 231 rfl) rfl
theorem q344 : (Jvm.Cond.stringRef "GridTable$Scanner" (75 : Nat) "") ∈ lw_tbl := lw_at lw_m1 233 rfl
theorem q345 : (Jvm.Cond.methodLink "GridTable$Scanner" (77 : Nat) ({ cls := "GridTable$Token", name := "<init>", desc := "(LGridTable$Sort;Ljava/lang/String;I)V" } : Jvm.MethodName)) ∈ lw_all := lw_g (lw_at lw_m1 234 rfl) rfl
theorem q351 : (Jvm.Cond.fieldLinkNest "GridTable$Scanner" (53 : Nat) "GridTable$Token" "sort" "LGridTable$Sort;" "GridTable") ∈ lw_tbl := lw_at lw_m2 0 rfl
theorem q353 : (Jvm.Cond.fieldLinkNest "GridTable$Scanner" (64 : Nat) "GridTable$Token" "text" "Ljava/lang/String;" "GridTable") ∈ lw_tbl := lw_at lw_m2 2 rfl
theorem q364 : (Jvm.Cond.methodLink "GridTable$Scanner" (82 : Nat) ({ cls := "GridTable$Scanner", name := "isLetter", desc := "(I)Z" } : Jvm.MethodName)) ∈ lw_all := lw_g (lw_at lw_m2 13 rfl) rfl
theorem q365 : (Jvm.Cond.static ({ cls := "GridTable$Scanner", name := "isLetter", desc := "(I)Z" } : Jvm.MethodName)) ∈ lw_all := lw_g (lw_at lw_m2 14 rfl) rfl
theorem q366 : (Jvm.Cond.code ({ cls := "GridTable$Scanner", name := "isLetter", desc := "(I)Z" } : Jvm.MethodName) prog_16_method_2_code (1 : Nat) (Option.some Jvm.ClassFile.FieldType.boolean)) ∈ lw_all := lw_g (lw_at lw_m2 15 rfl) rfl
theorem q367 : (Jvm.Cond.methodLink "GridTable$Scanner" (85 : Nat) ({ cls := "GridTable$Scanner", name := "isDigit", desc := "(I)Z" } : Jvm.MethodName)) ∈ lw_all := lw_g (lw_at lw_m2 16 rfl) rfl
theorem q368 : (Jvm.Cond.static ({ cls := "GridTable$Scanner", name := "isDigit", desc := "(I)Z" } : Jvm.MethodName)) ∈ lw_all := lw_g (lw_at lw_m2 17 rfl) rfl
theorem q369 : (Jvm.Cond.code ({ cls := "GridTable$Scanner", name := "isDigit", desc := "(I)Z" } : Jvm.MethodName) prog_16_method_3_code (1 : Nat) (Option.some Jvm.ClassFile.FieldType.boolean)) ∈ lw_all := lw_g (lw_at lw_m2 18 rfl) rfl
theorem q370 : (Jvm.Cond.methodLink "GridTable$Scanner" (88 : Nat) ({ cls := "GridTable$Tape", name := "text", desc := "(II)Ljava/lang/String;" } : Jvm.MethodName)) ∈ lw_all := lw_g (lw_at lw_m2 19 rfl) rfl
theorem q707 : (Jvm.Cond.methodLink "GridTable$Scanner" (68 : Nat) ({ cls := "java/lang/String", name := "length", desc := "()I" } : Jvm.MethodName)) ∈ lw_all := lw_g (lw_at lw_m3 116 rfl) rfl
theorem q708 : (Jvm.Cond.methodLink "GridTable$Scanner" (91 : Nat) ({ cls := "GridTable$Scanner", name := "isKey", desc := "(Ljava/lang/String;)Z" } : Jvm.MethodName)) ∈ lw_all := lw_g (lw_at lw_m3 117 rfl) rfl
theorem q709 : (Jvm.Cond.static ({ cls := "GridTable$Scanner", name := "isKey", desc := "(Ljava/lang/String;)Z" } : Jvm.MethodName)) ∈ lw_all := lw_g (lw_at lw_m3 118 rfl) rfl
theorem q710 : (Jvm.Cond.code ({ cls := "GridTable$Scanner", name := "isKey", desc := "(Ljava/lang/String;)Z" } : Jvm.MethodName) prog_16_method_5_code (5 : Nat) (Option.some Jvm.ClassFile.FieldType.boolean)) ∈ lw_all := lw_g (lw_at lw_m3 119 rfl) rfl
theorem q711 : (Jvm.Cond.fieldLink "GridTable$Scanner" (22 : Nat) "GridTable$Scanner" "KEYS" "[Ljava/lang/String;") ∈ lw_all := lw_g (lw_at lw_m3 120 rfl) rfl
theorem q712 : (Jvm.Cond.laysStatic "GridTable$Scanner" "KEYS" "[Ljava/lang/String;") ∈ lw_tbl := lw_at lw_m3 121 rfl
theorem q713 : (Jvm.Cond.methodLink "GridTable$Scanner" (26 : Nat) ({ cls := "java/lang/String", name := "equals", desc := "(Ljava/lang/Object;)Z" } : Jvm.MethodName)) ∈ lw_all := lw_g (lw_at lw_m3 122 rfl) rfl
theorem q721 : (Jvm.Cond.fieldLink "GridTable$Scanner" (95 : Nat) "GridTable$Sort" "KEY" "LGridTable$Sort;") ∈ lw_all := lw_g (lw_at lw_m3 130 rfl) rfl
theorem q723 : (Jvm.Cond.fieldLink "GridTable$Scanner" (98 : Nat) "GridTable$Sort" "NAME" "LGridTable$Sort;") ∈ lw_all := lw_g (lw_at lw_m3 132 rfl) rfl
theorem q725 : (Jvm.Cond.fieldLink "GridTable$Scanner" (101 : Nat) "GridTable$Sort" "NUMBER" "LGridTable$Sort;") ∈ lw_all := lw_g (lw_at lw_m3 134 rfl) rfl
theorem q727 : (Jvm.Cond.stringRef "GridTable$Scanner" (104 : Nat) "()[];,+-*/<>=") ∈ lw_tbl := lw_at lw_m3 136 rfl
theorem q728 : (Jvm.Cond.methodLink "GridTable$Scanner" (106 : Nat) ({ cls := "java/lang/String", name := "indexOf", desc := "(I)I" } : Jvm.MethodName)) ∈ lw_all := lw_g (lw_at lw_m3 137 rfl) rfl
theorem q778 : (Jvm.Cond.fieldLink "GridTable$Scanner" (109 : Nat) "GridTable$Sort" "SYMBOL" "LGridTable$Sort;") ∈ lw_all := lw_g (lw_at lw_m3 187 rfl) rfl
theorem q780 : (Jvm.Cond.methodLink "GridTable$Scanner" (50 : Nat) ({ cls := "java/util/ArrayList", name := "add", desc := "(Ljava/lang/Object;)Z" } : Jvm.MethodName)) ∈ lw_all := lw_g (lw_at lw_m3 189 rfl) rfl
theorem q817 : (Jvm.Cond.selects "GridTable$Scanner" ({ cls := "java/lang/Object", name := "getClass", desc := "()Ljava/lang/Class;" } : Jvm.MethodName) ({ cls := "java/lang/Object", name := "getClass", desc := "()Ljava/lang/Class;" } : Jvm.MethodName)) ∈ lw_all := lw_g (lw_at lw_m3 226 rfl) rfl
theorem q863 : (Jvm.Cond.fieldLink "GridTable$Scanner" (72 : Nat) "GridTable$Sort" "END" "LGridTable$Sort;") ∈ lw_all := lw_g (lw_at lw_m4 32 rfl) rfl
theorem q1046 : (Jvm.Cond.selects "GridTable$Scanner" ({ cls := "java/lang/Object", name := "hashCode", desc := "()I" } : Jvm.MethodName) ({ cls := "java/lang/Object", name := "hashCode", desc := "()I" } : Jvm.MethodName)) ∈ lw_all := lw_g (lw_at lw_m4 215 rfl) rfl
theorem q1158 : (Jvm.Cond.selects "GridTable$Scanner" ({ cls := "java/lang/Object", name := "equals", desc := "(Ljava/lang/Object;)Z" } : Jvm.MethodName) ({ cls := "java/lang/Object", name := "equals", desc := "(Ljava/lang/Object;)Z" } : Jvm.MethodName)) ∈ lw_all := lw_g (lw_at lw_m5 87 rfl) rfl
theorem q3338 : (Jvm.Cond.castable "GridTable$Scanner" "java/lang/Object") ∈ lw_tbl := lw_at lw_m14 107 rfl
theorem q3399 : (Jvm.Cond.stringRef "GridTable$Scanner" (112 : Nat) "point") ∈ lw_tbl := lw_at lw_m14 168 rfl
theorem q3400 : (Jvm.Cond.stringRef "GridTable$Scanner" (114 : Nat) "at") ∈ lw_tbl := lw_at lw_m14 169 rfl
theorem q3401 : (Jvm.Cond.stringRef "GridTable$Scanner" (115 : Nat) "shape") ∈ lw_tbl := lw_at lw_m14 170 rfl
theorem q3402 : (Jvm.Cond.stringRef "GridTable$Scanner" (117 : Nat) "of") ∈ lw_tbl := lw_at lw_m14 171 rfl
theorem q3403 : (Jvm.Cond.stringRef "GridTable$Scanner" (119 : Nat) "move") ∈ lw_tbl := lw_at lw_m14 172 rfl
theorem q3404 : (Jvm.Cond.stringRef "GridTable$Scanner" (121 : Nat) "by") ∈ lw_tbl := lw_at lw_m14 173 rfl
theorem q3405 : (Jvm.Cond.stringRef "GridTable$Scanner" (123 : Nat) "turn") ∈ lw_tbl := lw_at lw_m14 174 rfl
theorem q3406 : (Jvm.Cond.stringRef "GridTable$Scanner" (125 : Nat) "round") ∈ lw_tbl := lw_at lw_m14 175 rfl
theorem q3407 : (Jvm.Cond.stringRef "GridTable$Scanner" (127 : Nat) "flip") ∈ lw_tbl := lw_at lw_m14 176 rfl
theorem q3408 : (Jvm.Cond.stringRef "GridTable$Scanner" (129 : Nat) "when") ∈ lw_tbl := lw_at lw_m14 177 rfl
theorem q3409 : (Jvm.Cond.stringRef "GridTable$Scanner" (131 : Nat) "x") ∈ lw_tbl := lw_at lw_m14 178 rfl
theorem q3410 : (Jvm.Cond.stringRef "GridTable$Scanner" (133 : Nat) "y") ∈ lw_tbl := lw_at lw_m14 179 rfl
theorem q3411 : (Jvm.Cond.stringRef "GridTable$Scanner" (135 : Nat) "area") ∈ lw_tbl := lw_at lw_m14 180 rfl
theorem q3412 : (Jvm.Cond.stringRef "GridTable$Scanner" (137 : Nat) "crosses") ∈ lw_tbl := lw_at lw_m14 181 rfl
theorem q3413 : (Jvm.Cond.stringRef "GridTable$Scanner" (139 : Nat) "inside") ∈ lw_tbl := lw_at lw_m14 182 rfl
theorem q3414 : (Jvm.Cond.stringRef "GridTable$Scanner" (141 : Nat) "not") ∈ lw_tbl := lw_at lw_m14 183 rfl
theorem q3415 : (Jvm.Cond.stringRef "GridTable$Scanner" (143 : Nat) "and") ∈ lw_tbl := lw_at lw_m14 184 rfl
theorem q3416 : (Jvm.Cond.stringRef "GridTable$Scanner" (145 : Nat) "or") ∈ lw_tbl := lw_at lw_m14 185 rfl
theorem q3417 : (Jvm.Cond.stringRef "GridTable$Scanner" (147 : Nat) "min") ∈ lw_tbl := lw_at lw_m14 186 rfl
theorem q3418 : (Jvm.Cond.stringRef "GridTable$Scanner" (149 : Nat) "max") ∈ lw_tbl := lw_at lw_m14 187 rfl
theorem in_X8 : ∀ w ∈ wsX80, w ∈ lw_all := lw_in wsX80 [316, 318] (by decide +kernel) (by decide +kernel)

/-! GridTable$Token -/
set_option maxRecDepth 100000
def RX9 : String := "GridTable$Token"
def TX9 : u_T := fun k => match k with
  | 0 => ("GridTable$Token", "sort", "LGridTable$Sort;", true)
  | 1 => ("GridTable$Token", "text", "Ljava/lang/String;", true)
  | _ => ("GridTable$Token", "at", "I", true)
def tyX9 : Nat → FieldType := fun k => match k with
  | 0 => .object "GridTable$Sort"
  | 1 => .object "java/lang/String"
  | _ => .int
abbrev wsX90 : List Cond := u_ws RX9 TX9 3
theorem nmX9 : ∀ a, a < 3 → ∀ b, b < 3 → a ≠ b → (TX9 a).2.1 ≠ (TX9 b).2.1 := by decide +kernel
theorem tyX9_ok : ∀ k, k < 3 → parseFieldDescriptor (TX9 k).2.2.1 = some (tyX9 k) := by decide +kernel
abbrev cX9_init : ByteArray := prog_33_method_1_code
def yX9_init : MethodName := ⟨RX9, "<init>", "(LGridTable$Sort;Ljava/lang/String;I)V"⟩
def dkwX9_init_0 : List UInt8 := [42, 183, 0, 1, 42, 43, 181, 0, 7, 42, 44, 181, 0, 13, 42, 29, 181, 0, 17, 177]
abbrev dktX9_init_0 : List UInt8 := dkwX9_init_0 ++ []
theorem dksX9_init_0 : cX9_init.data.toList.drop 0 = dktX9_init_0 := by decide +kernel
theorem dX9_init_0 : decode cX9_init 0 = .ok (.aload_n 0, 1) := dk_42 (dk_at dksX9_init_0 0 rfl rfl)
theorem dX9_init_1 : decode cX9_init 1 = .ok (.invokespecial 1, 3) := dk_183 0 1 (dk_at dksX9_init_0 1 rfl rfl)
theorem dX9_init_4 : decode cX9_init 4 = .ok (.aload_n 0, 1) := dk_42 (dk_at dksX9_init_0 4 rfl rfl)
theorem dX9_init_5 : decode cX9_init 5 = .ok (.aload_n 1, 1) := dk_43 (dk_at dksX9_init_0 5 rfl rfl)
theorem dX9_init_6 : decode cX9_init 6 = .ok (.putfield 7, 3) := dk_181 0 7 (dk_at dksX9_init_0 6 rfl rfl)
theorem dX9_init_9 : decode cX9_init 9 = .ok (.aload_n 0, 1) := dk_42 (dk_at dksX9_init_0 9 rfl rfl)
theorem dX9_init_10 : decode cX9_init 10 = .ok (.aload_n 2, 1) := dk_44 (dk_at dksX9_init_0 10 rfl rfl)
theorem dX9_init_11 : decode cX9_init 11 = .ok (.putfield 13, 3) := dk_181 0 13 (dk_at dksX9_init_0 11 rfl rfl)
theorem dX9_init_14 : decode cX9_init 14 = .ok (.aload_n 0, 1) := dk_42 (dk_at dksX9_init_0 14 rfl rfl)
theorem dX9_init_15 : decode cX9_init 15 = .ok (.iload_n 3, 1) := dk_29 (dk_at dksX9_init_0 15 rfl rfl)
theorem dX9_init_16 : decode cX9_init 16 = .ok (.putfield 17, 3) := dk_181 0 17 (dk_at dksX9_init_0 16 rfl rfl)
theorem dX9_init_19 : decode cX9_init 19 = .ok (.return_, 1) := dk_177 (dk_at dksX9_init_0 19 rfl rfl)
abbrev cX9_is : ByteArray := prog_33_method_2_code
def yX9_is : MethodName := ⟨RX9, "is", "(Ljava/lang/String;)Z"⟩
def dkwX9_is_1 : List UInt8 := [43, 182, 0, 29, 153, 0, 7, 4, 167, 0, 4, 3, 172]
abbrev dktX9_is_1 : List UInt8 := dkwX9_is_1 ++ []
def dkwX9_is_0 : List UInt8 := [42, 180, 0, 7, 178, 0, 21, 165, 0, 13, 42, 180, 0, 7, 178, 0, 26, 166, 0, 18, 42, 180, 0, 13]
abbrev dktX9_is_0 : List UInt8 := dkwX9_is_0 ++ dktX9_is_1
theorem dksX9_is_0 : cX9_is.data.toList.drop 0 = dktX9_is_0 := by decide +kernel
theorem dksX9_is_1 : cX9_is.data.toList.drop 24 = dktX9_is_1 := dk_seg dksX9_is_0 24 rfl rfl
theorem dX9_is_0 : decode cX9_is 0 = .ok (.aload_n 0, 1) := dk_42 (dk_at dksX9_is_0 0 rfl rfl)
theorem dX9_is_1 : decode cX9_is 1 = .ok (.getfield 7, 3) := dk_180 0 7 (dk_at dksX9_is_0 1 rfl rfl)
theorem dX9_is_4 : decode cX9_is 4 = .ok (.getstatic 21, 3) := dk_178 0 21 (dk_at dksX9_is_0 4 rfl rfl)
theorem dX9_is_7 : decode cX9_is 7 = .ok (.if_acmp .eq 13, 3) := dk_165 0 13 (dk_at dksX9_is_0 7 rfl rfl)
theorem dX9_is_10 : decode cX9_is 10 = .ok (.aload_n 0, 1) := dk_42 (dk_at dksX9_is_0 10 rfl rfl)
theorem dX9_is_11 : decode cX9_is 11 = .ok (.getfield 7, 3) := dk_180 0 7 (dk_at dksX9_is_0 11 rfl rfl)
theorem dX9_is_14 : decode cX9_is 14 = .ok (.getstatic 26, 3) := dk_178 0 26 (dk_at dksX9_is_0 14 rfl rfl)
theorem dX9_is_17 : decode cX9_is 17 = .ok (.if_acmp .ne 18, 3) := dk_166 0 18 (dk_at dksX9_is_0 17 rfl rfl)
theorem dX9_is_20 : decode cX9_is 20 = .ok (.aload_n 0, 1) := dk_42 (dk_at dksX9_is_0 20 rfl rfl)
theorem dX9_is_21 : decode cX9_is 21 = .ok (.getfield 13, 3) := dk_180 0 13 (dk_at dksX9_is_0 21 rfl rfl)
theorem dX9_is_24 : decode cX9_is 24 = .ok (.aload_n 1, 1) := dk_43 (dk_at dksX9_is_1 0 rfl rfl)
theorem dX9_is_25 : decode cX9_is 25 = .ok (.invokevirtual 29, 3) := dk_182 0 29 (dk_at dksX9_is_1 1 rfl rfl)
theorem dX9_is_28 : decode cX9_is 28 = .ok (.ifCond .eq 7, 3) := dk_153 0 7 (dk_at dksX9_is_1 4 rfl rfl)
theorem dX9_is_31 : decode cX9_is 31 = .ok (.iconst 1, 1) := dk_4 (dk_at dksX9_is_1 7 rfl rfl)
theorem dX9_is_32 : decode cX9_is 32 = .ok (.goto 4, 3) := dk_167 0 4 (dk_at dksX9_is_1 8 rfl rfl)
theorem dX9_is_35 : decode cX9_is 35 = .ok (.iconst 0, 1) := dk_3 (dk_at dksX9_is_1 11 rfl rfl)
theorem dX9_is_36 : decode cX9_is 36 = .ok (.ireturn, 1) := dk_172 (dk_at dksX9_is_1 12 rfl rfl)
abbrev cX9_number : ByteArray := prog_33_method_3_code
def yX9_number : MethodName := ⟨RX9, "number", "()I"⟩
def dkwX9_number_1 : List UInt8 := [182, 0, 39, 96, 16, 48, 100, 60, 132, 2, 1, 167, 255, 225, 27, 172]
abbrev dktX9_number_1 : List UInt8 := dkwX9_number_1 ++ []
def dkwX9_number_0 : List UInt8 := [3, 60, 3, 61, 28, 42, 180, 0, 13, 182, 0, 35, 162, 0, 26, 16, 10, 27, 104, 42, 180, 0, 13, 28]
abbrev dktX9_number_0 : List UInt8 := dkwX9_number_0 ++ dktX9_number_1
theorem dksX9_number_0 : cX9_number.data.toList.drop 0 = dktX9_number_0 := by decide +kernel
theorem dksX9_number_1 : cX9_number.data.toList.drop 24 = dktX9_number_1 := dk_seg dksX9_number_0 24 rfl rfl
theorem dX9_number_0 : decode cX9_number 0 = .ok (.iconst 0, 1) := dk_3 (dk_at dksX9_number_0 0 rfl rfl)
theorem dX9_number_1 : decode cX9_number 1 = .ok (.istore_n 1, 1) := dk_60 (dk_at dksX9_number_0 1 rfl rfl)
theorem dX9_number_2 : decode cX9_number 2 = .ok (.iconst 0, 1) := dk_3 (dk_at dksX9_number_0 2 rfl rfl)
theorem dX9_number_3 : decode cX9_number 3 = .ok (.istore_n 2, 1) := dk_61 (dk_at dksX9_number_0 3 rfl rfl)
theorem dX9_number_4 : decode cX9_number 4 = .ok (.iload_n 2, 1) := dk_28 (dk_at dksX9_number_0 4 rfl rfl)
theorem dX9_number_5 : decode cX9_number 5 = .ok (.aload_n 0, 1) := dk_42 (dk_at dksX9_number_0 5 rfl rfl)
theorem dX9_number_6 : decode cX9_number 6 = .ok (.getfield 13, 3) := dk_180 0 13 (dk_at dksX9_number_0 6 rfl rfl)
theorem dX9_number_9 : decode cX9_number 9 = .ok (.invokevirtual 35, 3) := dk_182 0 35 (dk_at dksX9_number_0 9 rfl rfl)
theorem dX9_number_12 : decode cX9_number 12 = .ok (.if_icmp .ge 26, 3) := dk_162 0 26 (dk_at dksX9_number_0 12 rfl rfl)
theorem dX9_number_15 : decode cX9_number 15 = .ok (.bipush 10, 2) := dk_16 10 (dk_at dksX9_number_0 15 rfl rfl)
theorem dX9_number_17 : decode cX9_number 17 = .ok (.iload_n 1, 1) := dk_27 (dk_at dksX9_number_0 17 rfl rfl)
theorem dX9_number_18 : decode cX9_number 18 = .ok (.imul, 1) := dk_104 (dk_at dksX9_number_0 18 rfl rfl)
theorem dX9_number_19 : decode cX9_number 19 = .ok (.aload_n 0, 1) := dk_42 (dk_at dksX9_number_0 19 rfl rfl)
theorem dX9_number_20 : decode cX9_number 20 = .ok (.getfield 13, 3) := dk_180 0 13 (dk_at dksX9_number_0 20 rfl rfl)
theorem dX9_number_23 : decode cX9_number 23 = .ok (.iload_n 2, 1) := dk_28 (dk_at dksX9_number_0 23 rfl rfl)
theorem dX9_number_24 : decode cX9_number 24 = .ok (.invokevirtual 39, 3) := dk_182 0 39 (dk_at dksX9_number_1 0 rfl rfl)
theorem dX9_number_27 : decode cX9_number 27 = .ok (.iadd, 1) := dk_96 (dk_at dksX9_number_1 3 rfl rfl)
theorem dX9_number_28 : decode cX9_number 28 = .ok (.bipush 48, 2) := dk_16 48 (dk_at dksX9_number_1 4 rfl rfl)
theorem dX9_number_30 : decode cX9_number 30 = .ok (.isub, 1) := dk_100 (dk_at dksX9_number_1 6 rfl rfl)
theorem dX9_number_31 : decode cX9_number 31 = .ok (.istore_n 1, 1) := dk_60 (dk_at dksX9_number_1 7 rfl rfl)
theorem dX9_number_32 : decode cX9_number 32 = .ok (.iinc 2 1, 3) := dk_132 2 1 (dk_at dksX9_number_1 8 rfl rfl)
theorem dX9_number_35 : decode cX9_number 35 = .ok (.goto (-31), 3) := dk_167 255 225 (dk_at dksX9_number_1 11 rfl rfl)
theorem dX9_number_38 : decode cX9_number 38 = .ok (.iload_n 1, 1) := dk_27 (dk_at dksX9_number_1 14 rfl rfl)
theorem dX9_number_39 : decode cX9_number 39 = .ok (.ireturn, 1) := dk_172 (dk_at dksX9_number_1 15 rfl rfl)
theorem q128 : (Jvm.Cond.initialized "GridTable$Token") ∈ lw_all := lw_g (lw_at lw_m1 17 rfl) rfl
theorem q341 : (Jvm.Cond.instantiable "GridTable$Token" (3 : Nat)) ∈ lw_all := lw_g (lw_at lw_m1 230 rfl) rfl
theorem q346 : (Jvm.Cond.instanceMethod ({ cls := "GridTable$Token", name := "<init>", desc := "(LGridTable$Sort;Ljava/lang/String;I)V" } : Jvm.MethodName)) ∈ lw_all := lw_g (lw_at lw_m1 235 rfl) rfl
theorem q347 : (Jvm.Cond.code ({ cls := "GridTable$Token", name := "<init>", desc := "(LGridTable$Sort;Ljava/lang/String;I)V" } : Jvm.MethodName) prog_33_method_1_code (4 : Nat) (Option.none : Option Jvm.ClassFile.FieldType)) ∈ lw_all := lw_g (lw_at lw_m1 236 rfl) rfl
theorem q348 : (Jvm.Cond.methodLink "GridTable$Token" (1 : Nat) ({ cls := "java/lang/Object", name := "<init>", desc := "()V" } : Jvm.MethodName)) ∈ lw_all := lw_g (lw_at lw_m1 237 rfl) rfl
theorem q349 : (Jvm.Cond.fieldLink "GridTable$Token" (7 : Nat) "GridTable$Token" "sort" "LGridTable$Sort;") ∈ lw_all := lw_g (lw_at lw_m1 238 rfl) rfl
theorem q352 : (Jvm.Cond.fieldLink "GridTable$Token" (13 : Nat) "GridTable$Token" "text" "Ljava/lang/String;") ∈ lw_all := lw_g (lw_at lw_m2 1 rfl) rfl
theorem q355 : (Jvm.Cond.fieldLink "GridTable$Token" (17 : Nat) "GridTable$Token" "at" "I") ∈ lw_all := lw_g (lw_at lw_m2 4 rfl) rfl
theorem q357 : (Jvm.Cond.laysFinal "GridTable$Token" "GridTable$Token" "sort" "LGridTable$Sort;") ∈ lw_all := lw_g (lw_at lw_m2 6 rfl) rfl
theorem q358 : (Jvm.Cond.soleField "GridTable$Token" "sort") ∈ lw_all := lw_g (lw_at lw_m2 7 rfl) rfl
theorem q359 : (Jvm.Cond.laysFinal "GridTable$Token" "GridTable$Token" "text" "Ljava/lang/String;") ∈ lw_all := lw_g (lw_at lw_m2 8 rfl) rfl
theorem q360 : (Jvm.Cond.soleField "GridTable$Token" "text") ∈ lw_all := lw_g (lw_at lw_m2 9 rfl) rfl
theorem q361 : (Jvm.Cond.laysFinal "GridTable$Token" "GridTable$Token" "at" "I") ∈ lw_all := lw_g (lw_at lw_m2 10 rfl) rfl
theorem q362 : (Jvm.Cond.soleField "GridTable$Token" "at") ∈ lw_all := lw_g (lw_at lw_m2 11 rfl) rfl
theorem q363 : (Jvm.Cond.superclass "GridTable$Token" "java/lang/Object") ∈ lw_all := lw_g (lw_at lw_m2 12 rfl) rfl
theorem q831 : (Jvm.Cond.selects "GridTable$Token" ({ cls := "java/lang/Object", name := "getClass", desc := "()Ljava/lang/Class;" } : Jvm.MethodName) ({ cls := "java/lang/Object", name := "getClass", desc := "()Ljava/lang/Class;" } : Jvm.MethodName)) ∈ lw_all := lw_g (lw_at lw_m4 0 rfl) rfl
theorem q963 : (Jvm.Cond.instanceMethod ({ cls := "GridTable$Token", name := "is", desc := "(Ljava/lang/String;)Z" } : Jvm.MethodName)) ∈ lw_all := lw_g (lw_at lw_m4 132 rfl) rfl
theorem q964 : (Jvm.Cond.selects "GridTable$Token" ({ cls := "GridTable$Token", name := "is", desc := "(Ljava/lang/String;)Z" } : Jvm.MethodName) ({ cls := "GridTable$Token", name := "is", desc := "(Ljava/lang/String;)Z" } : Jvm.MethodName)) ∈ lw_all := lw_g (lw_at lw_m4 133 rfl) rfl
theorem q965 : (Jvm.Cond.code ({ cls := "GridTable$Token", name := "is", desc := "(Ljava/lang/String;)Z" } : Jvm.MethodName) prog_33_method_2_code (2 : Nat) (Option.some Jvm.ClassFile.FieldType.boolean)) ∈ lw_all := lw_g (lw_at lw_m4 134 rfl) rfl
theorem q966 : (Jvm.Cond.fieldLink "GridTable$Token" (21 : Nat) "GridTable$Sort" "KEY" "LGridTable$Sort;") ∈ lw_all := lw_g (lw_at lw_m4 135 rfl) rfl
theorem q967 : (Jvm.Cond.fieldLink "GridTable$Token" (26 : Nat) "GridTable$Sort" "SYMBOL" "LGridTable$Sort;") ∈ lw_all := lw_g (lw_at lw_m4 136 rfl) rfl
theorem q968 : (Jvm.Cond.methodLink "GridTable$Token" (29 : Nat) ({ cls := "java/lang/String", name := "equals", desc := "(Ljava/lang/Object;)Z" } : Jvm.MethodName)) ∈ lw_all := lw_g (lw_at lw_m4 137 rfl) rfl
theorem q1060 : (Jvm.Cond.selects "GridTable$Token" ({ cls := "java/lang/Object", name := "hashCode", desc := "()I" } : Jvm.MethodName) ({ cls := "java/lang/Object", name := "hashCode", desc := "()I" } : Jvm.MethodName)) ∈ lw_all := lw_g (lw_at lw_m4 229 rfl) rfl
theorem q1172 : (Jvm.Cond.selects "GridTable$Token" ({ cls := "java/lang/Object", name := "equals", desc := "(Ljava/lang/Object;)Z" } : Jvm.MethodName) ({ cls := "java/lang/Object", name := "equals", desc := "(Ljava/lang/Object;)Z" } : Jvm.MethodName)) ∈ lw_all := lw_g (lw_at lw_m5 101 rfl) rfl
theorem q1525 : (Jvm.Cond.instanceMethod ({ cls := "GridTable$Token", name := "number", desc := "()I" } : Jvm.MethodName)) ∈ lw_all := lw_g (lw_at lw_m6 214 rfl) rfl
theorem q1526 : (Jvm.Cond.selects "GridTable$Token" ({ cls := "GridTable$Token", name := "number", desc := "()I" } : Jvm.MethodName) ({ cls := "GridTable$Token", name := "number", desc := "()I" } : Jvm.MethodName)) ∈ lw_all := lw_g (lw_at lw_m6 215 rfl) rfl
theorem q1527 : (Jvm.Cond.code ({ cls := "GridTable$Token", name := "number", desc := "()I" } : Jvm.MethodName) prog_33_method_3_code (3 : Nat) (Option.some Jvm.ClassFile.FieldType.int)) ∈ lw_all := lw_g (lw_at lw_m6 216 rfl) rfl
theorem q1528 : (Jvm.Cond.methodLink "GridTable$Token" (35 : Nat) ({ cls := "java/lang/String", name := "length", desc := "()I" } : Jvm.MethodName)) ∈ lw_all := lw_g (lw_at lw_m6 217 rfl) rfl
theorem q1529 : (Jvm.Cond.methodLink "GridTable$Token" (39 : Nat) ({ cls := "java/lang/String", name := "charAt", desc := "(I)C" } : Jvm.MethodName)) ∈ lw_all := lw_g (lw_at lw_m6 218 rfl) rfl
theorem q3339 : (Jvm.Cond.castable "GridTable$Token" "java/lang/Object") ∈ lw_tbl := lw_at lw_m14 108 rfl
theorem in_X9 : ∀ w ∈ wsX90, w ∈ lw_all := lw_in wsX90 [357, 359, 361] (by decide +kernel) (by decide +kernel)

/-! java/lang/Enum -/
set_option maxRecDepth 100000
def RJ8 : String := "java/lang/Enum"
abbrev cJ8_hashCode : ByteArray := prog_51_method_6_code
def yJ8_hashCode : MethodName := ⟨RJ8, "hashCode", "()I"⟩
def dkwJ8_hashCode_0 : List UInt8 := [42, 180, 0, 17, 60, 27, 154, 0, 13, 42, 42, 184, 0, 20, 90, 181, 0, 17, 60, 27, 172]
abbrev dktJ8_hashCode_0 : List UInt8 := dkwJ8_hashCode_0 ++ []
theorem dksJ8_hashCode_0 : cJ8_hashCode.data.toList.drop 0 = dktJ8_hashCode_0 := by decide +kernel
theorem dJ8_hashCode_0 : decode cJ8_hashCode 0 = .ok (.aload_n 0, 1) := dk_42 (dk_at dksJ8_hashCode_0 0 rfl rfl)
theorem dJ8_hashCode_1 : decode cJ8_hashCode 1 = .ok (.getfield 17, 3) := dk_180 0 17 (dk_at dksJ8_hashCode_0 1 rfl rfl)
theorem dJ8_hashCode_4 : decode cJ8_hashCode 4 = .ok (.istore_n 1, 1) := dk_60 (dk_at dksJ8_hashCode_0 4 rfl rfl)
theorem dJ8_hashCode_5 : decode cJ8_hashCode 5 = .ok (.iload_n 1, 1) := dk_27 (dk_at dksJ8_hashCode_0 5 rfl rfl)
theorem dJ8_hashCode_6 : decode cJ8_hashCode 6 = .ok (.ifCond .ne 13, 3) := dk_154 0 13 (dk_at dksJ8_hashCode_0 6 rfl rfl)
theorem dJ8_hashCode_9 : decode cJ8_hashCode 9 = .ok (.aload_n 0, 1) := dk_42 (dk_at dksJ8_hashCode_0 9 rfl rfl)
theorem dJ8_hashCode_10 : decode cJ8_hashCode 10 = .ok (.aload_n 0, 1) := dk_42 (dk_at dksJ8_hashCode_0 10 rfl rfl)
theorem dJ8_hashCode_11 : decode cJ8_hashCode 11 = .ok (.invokestatic 20, 3) := dk_184 0 20 (dk_at dksJ8_hashCode_0 11 rfl rfl)
theorem dJ8_hashCode_14 : decode cJ8_hashCode 14 = .ok (.dup_x1, 1) := dk_90 (dk_at dksJ8_hashCode_0 14 rfl rfl)
theorem dJ8_hashCode_15 : decode cJ8_hashCode 15 = .ok (.putfield 17, 3) := dk_181 0 17 (dk_at dksJ8_hashCode_0 15 rfl rfl)
theorem dJ8_hashCode_18 : decode cJ8_hashCode 18 = .ok (.istore_n 1, 1) := dk_60 (dk_at dksJ8_hashCode_0 18 rfl rfl)
theorem dJ8_hashCode_19 : decode cJ8_hashCode 19 = .ok (.iload_n 1, 1) := dk_27 (dk_at dksJ8_hashCode_0 19 rfl rfl)
theorem dJ8_hashCode_20 : decode cJ8_hashCode 20 = .ok (.ireturn, 1) := dk_172 (dk_at dksJ8_hashCode_0 20 rfl rfl)
abbrev cJ8_equals : ByteArray := prog_51_method_5_code
def yJ8_equals : MethodName := ⟨RJ8, "equals", "(Ljava/lang/Object;)Z"⟩
def dkwJ8_equals_0 : List UInt8 := [42, 43, 166, 0, 7, 4, 167, 0, 4, 3, 172]
abbrev dktJ8_equals_0 : List UInt8 := dkwJ8_equals_0 ++ []
theorem dksJ8_equals_0 : cJ8_equals.data.toList.drop 0 = dktJ8_equals_0 := by decide +kernel
theorem dJ8_equals_0 : decode cJ8_equals 0 = .ok (.aload_n 0, 1) := dk_42 (dk_at dksJ8_equals_0 0 rfl rfl)
theorem dJ8_equals_1 : decode cJ8_equals 1 = .ok (.aload_n 1, 1) := dk_43 (dk_at dksJ8_equals_0 1 rfl rfl)
theorem dJ8_equals_2 : decode cJ8_equals 2 = .ok (.if_acmp .ne 7, 3) := dk_166 0 7 (dk_at dksJ8_equals_0 2 rfl rfl)
theorem dJ8_equals_5 : decode cJ8_equals 5 = .ok (.iconst 1, 1) := dk_4 (dk_at dksJ8_equals_0 5 rfl rfl)
theorem dJ8_equals_6 : decode cJ8_equals 6 = .ok (.goto 4, 3) := dk_167 0 4 (dk_at dksJ8_equals_0 6 rfl rfl)
theorem dJ8_equals_9 : decode cJ8_equals 9 = .ok (.iconst 0, 1) := dk_3 (dk_at dksJ8_equals_0 9 rfl rfl)
theorem dJ8_equals_10 : decode cJ8_equals 10 = .ok (.ireturn, 1) := dk_172 (dk_at dksJ8_equals_0 10 rfl rfl)
abbrev cJ8_compareTo : ByteArray := prog_51_method_15_code
def yJ8_compareTo : MethodName := ⟨RJ8, "compareTo", "(Ljava/lang/Object;)I"⟩
def dkwJ8_compareTo_0 : List UInt8 := [42, 43, 192, 0, 2, 182, 0, 101, 172]
abbrev dktJ8_compareTo_0 : List UInt8 := dkwJ8_compareTo_0 ++ []
theorem dksJ8_compareTo_0 : cJ8_compareTo.data.toList.drop 0 = dktJ8_compareTo_0 := by decide +kernel
theorem dJ8_compareTo_0 : decode cJ8_compareTo 0 = .ok (.aload_n 0, 1) := dk_42 (dk_at dksJ8_compareTo_0 0 rfl rfl)
theorem dJ8_compareTo_1 : decode cJ8_compareTo 1 = .ok (.aload_n 1, 1) := dk_43 (dk_at dksJ8_compareTo_0 1 rfl rfl)
theorem dJ8_compareTo_2 : decode cJ8_compareTo 2 = .ok (.checkcast 2, 3) := dk_192 0 2 (dk_at dksJ8_compareTo_0 2 rfl rfl)
theorem dJ8_compareTo_5 : decode cJ8_compareTo 5 = .ok (.invokevirtual 101, 3) := dk_182 0 101 (dk_at dksJ8_compareTo_0 5 rfl rfl)
theorem dJ8_compareTo_8 : decode cJ8_compareTo 8 = .ok (.ireturn, 1) := dk_172 (dk_at dksJ8_compareTo_0 8 rfl rfl)
abbrev cJ8_compareTo_2 : ByteArray := prog_51_method_8_code
def yJ8_compareTo_2 : MethodName := ⟨RJ8, "compareTo", "(Ljava/lang/Enum;)I"⟩
def dkwJ8_compareTo_2_1 : List UInt8 := [165, 0, 11, 187, 0, 36, 89, 183, 0, 38, 191, 45, 180, 0, 7, 44, 180, 0, 7, 100, 172]
abbrev dktJ8_compareTo_2_1 : List UInt8 := dkwJ8_compareTo_2_1 ++ []
def dkwJ8_compareTo_2_0 : List UInt8 := [43, 77, 42, 78, 45, 182, 0, 29, 44, 182, 0, 29, 165, 0, 22, 45, 182, 0, 33, 44, 182, 0, 33]
abbrev dktJ8_compareTo_2_0 : List UInt8 := dkwJ8_compareTo_2_0 ++ dktJ8_compareTo_2_1
theorem dksJ8_compareTo_2_0 : cJ8_compareTo_2.data.toList.drop 0 = dktJ8_compareTo_2_0 := by decide +kernel
theorem dksJ8_compareTo_2_1 : cJ8_compareTo_2.data.toList.drop 23 = dktJ8_compareTo_2_1 := dk_seg dksJ8_compareTo_2_0 23 rfl rfl
theorem dJ8_compareTo_2_0 : decode cJ8_compareTo_2 0 = .ok (.aload_n 1, 1) := dk_43 (dk_at dksJ8_compareTo_2_0 0 rfl rfl)
theorem dJ8_compareTo_2_1 : decode cJ8_compareTo_2 1 = .ok (.astore_n 2, 1) := dk_77 (dk_at dksJ8_compareTo_2_0 1 rfl rfl)
theorem dJ8_compareTo_2_2 : decode cJ8_compareTo_2 2 = .ok (.aload_n 0, 1) := dk_42 (dk_at dksJ8_compareTo_2_0 2 rfl rfl)
theorem dJ8_compareTo_2_3 : decode cJ8_compareTo_2 3 = .ok (.astore_n 3, 1) := dk_78 (dk_at dksJ8_compareTo_2_0 3 rfl rfl)
theorem dJ8_compareTo_2_4 : decode cJ8_compareTo_2 4 = .ok (.aload_n 3, 1) := dk_45 (dk_at dksJ8_compareTo_2_0 4 rfl rfl)
theorem dJ8_compareTo_2_5 : decode cJ8_compareTo_2 5 = .ok (.invokevirtual 29, 3) := dk_182 0 29 (dk_at dksJ8_compareTo_2_0 5 rfl rfl)
theorem dJ8_compareTo_2_8 : decode cJ8_compareTo_2 8 = .ok (.aload_n 2, 1) := dk_44 (dk_at dksJ8_compareTo_2_0 8 rfl rfl)
theorem dJ8_compareTo_2_9 : decode cJ8_compareTo_2 9 = .ok (.invokevirtual 29, 3) := dk_182 0 29 (dk_at dksJ8_compareTo_2_0 9 rfl rfl)
theorem dJ8_compareTo_2_12 : decode cJ8_compareTo_2 12 = .ok (.if_acmp .eq 22, 3) := dk_165 0 22 (dk_at dksJ8_compareTo_2_0 12 rfl rfl)
theorem dJ8_compareTo_2_15 : decode cJ8_compareTo_2 15 = .ok (.aload_n 3, 1) := dk_45 (dk_at dksJ8_compareTo_2_0 15 rfl rfl)
theorem dJ8_compareTo_2_16 : decode cJ8_compareTo_2 16 = .ok (.invokevirtual 33, 3) := dk_182 0 33 (dk_at dksJ8_compareTo_2_0 16 rfl rfl)
theorem dJ8_compareTo_2_19 : decode cJ8_compareTo_2 19 = .ok (.aload_n 2, 1) := dk_44 (dk_at dksJ8_compareTo_2_0 19 rfl rfl)
theorem dJ8_compareTo_2_20 : decode cJ8_compareTo_2 20 = .ok (.invokevirtual 33, 3) := dk_182 0 33 (dk_at dksJ8_compareTo_2_0 20 rfl rfl)
theorem dJ8_compareTo_2_23 : decode cJ8_compareTo_2 23 = .ok (.if_acmp .eq 11, 3) := dk_165 0 11 (dk_at dksJ8_compareTo_2_1 0 rfl rfl)
theorem dJ8_compareTo_2_26 : decode cJ8_compareTo_2 26 = .ok (.new 36, 3) := dk_187 0 36 (dk_at dksJ8_compareTo_2_1 3 rfl rfl)
theorem dJ8_compareTo_2_29 : decode cJ8_compareTo_2 29 = .ok (.dup, 1) := dk_89 (dk_at dksJ8_compareTo_2_1 6 rfl rfl)
theorem dJ8_compareTo_2_30 : decode cJ8_compareTo_2 30 = .ok (.invokespecial 38, 3) := dk_183 0 38 (dk_at dksJ8_compareTo_2_1 7 rfl rfl)
theorem dJ8_compareTo_2_33 : decode cJ8_compareTo_2 33 = .ok (.athrow, 1) := dk_191 (dk_at dksJ8_compareTo_2_1 10 rfl rfl)
theorem dJ8_compareTo_2_34 : decode cJ8_compareTo_2 34 = .ok (.aload_n 3, 1) := dk_45 (dk_at dksJ8_compareTo_2_1 11 rfl rfl)
theorem dJ8_compareTo_2_35 : decode cJ8_compareTo_2 35 = .ok (.getfield 7, 3) := dk_180 0 7 (dk_at dksJ8_compareTo_2_1 12 rfl rfl)
theorem dJ8_compareTo_2_38 : decode cJ8_compareTo_2 38 = .ok (.aload_n 2, 1) := dk_44 (dk_at dksJ8_compareTo_2_1 15 rfl rfl)
theorem dJ8_compareTo_2_39 : decode cJ8_compareTo_2 39 = .ok (.getfield 7, 3) := dk_180 0 7 (dk_at dksJ8_compareTo_2_1 16 rfl rfl)
theorem dJ8_compareTo_2_42 : decode cJ8_compareTo_2 42 = .ok (.isub, 1) := dk_100 (dk_at dksJ8_compareTo_2_1 19 rfl rfl)
theorem dJ8_compareTo_2_43 : decode cJ8_compareTo_2 43 = .ok (.ireturn, 1) := dk_172 (dk_at dksJ8_compareTo_2_1 20 rfl rfl)
abbrev cJ8_getDeclaringClass : ByteArray := prog_51_method_9_code
def yJ8_getDeclaringClass : MethodName := ⟨RJ8, "getDeclaringClass", "()Ljava/lang/Class;"⟩
def dkwJ8_getDeclaringClass_0 : List UInt8 := [42, 182, 0, 29, 76, 43, 182, 0, 39, 77, 44, 18, 2, 166, 0, 7, 43, 167, 0, 4, 44, 176]
abbrev dktJ8_getDeclaringClass_0 : List UInt8 := dkwJ8_getDeclaringClass_0 ++ []
theorem dksJ8_getDeclaringClass_0 : cJ8_getDeclaringClass.data.toList.drop 0 = dktJ8_getDeclaringClass_0 := by decide +kernel
theorem dJ8_getDeclaringClass_0 : decode cJ8_getDeclaringClass 0 = .ok (.aload_n 0, 1) := dk_42 (dk_at dksJ8_getDeclaringClass_0 0 rfl rfl)
theorem dJ8_getDeclaringClass_1 : decode cJ8_getDeclaringClass 1 = .ok (.invokevirtual 29, 3) := dk_182 0 29 (dk_at dksJ8_getDeclaringClass_0 1 rfl rfl)
theorem dJ8_getDeclaringClass_4 : decode cJ8_getDeclaringClass 4 = .ok (.astore_n 1, 1) := dk_76 (dk_at dksJ8_getDeclaringClass_0 4 rfl rfl)
theorem dJ8_getDeclaringClass_5 : decode cJ8_getDeclaringClass 5 = .ok (.aload_n 1, 1) := dk_43 (dk_at dksJ8_getDeclaringClass_0 5 rfl rfl)
theorem dJ8_getDeclaringClass_6 : decode cJ8_getDeclaringClass 6 = .ok (.invokevirtual 39, 3) := dk_182 0 39 (dk_at dksJ8_getDeclaringClass_0 6 rfl rfl)
theorem dJ8_getDeclaringClass_9 : decode cJ8_getDeclaringClass 9 = .ok (.astore_n 2, 1) := dk_77 (dk_at dksJ8_getDeclaringClass_0 9 rfl rfl)
theorem dJ8_getDeclaringClass_10 : decode cJ8_getDeclaringClass 10 = .ok (.aload_n 2, 1) := dk_44 (dk_at dksJ8_getDeclaringClass_0 10 rfl rfl)
theorem dJ8_getDeclaringClass_11 : decode cJ8_getDeclaringClass 11 = .ok (.ldc 2, 2) := dk_18 2 (dk_at dksJ8_getDeclaringClass_0 11 rfl rfl)
theorem dJ8_getDeclaringClass_13 : decode cJ8_getDeclaringClass 13 = .ok (.if_acmp .ne 7, 3) := dk_166 0 7 (dk_at dksJ8_getDeclaringClass_0 13 rfl rfl)
theorem dJ8_getDeclaringClass_16 : decode cJ8_getDeclaringClass 16 = .ok (.aload_n 1, 1) := dk_43 (dk_at dksJ8_getDeclaringClass_0 16 rfl rfl)
theorem dJ8_getDeclaringClass_17 : decode cJ8_getDeclaringClass 17 = .ok (.goto 4, 3) := dk_167 0 4 (dk_at dksJ8_getDeclaringClass_0 17 rfl rfl)
theorem dJ8_getDeclaringClass_20 : decode cJ8_getDeclaringClass 20 = .ok (.aload_n 2, 1) := dk_44 (dk_at dksJ8_getDeclaringClass_0 20 rfl rfl)
theorem dJ8_getDeclaringClass_21 : decode cJ8_getDeclaringClass 21 = .ok (.areturn, 1) := dk_176 (dk_at dksJ8_getDeclaringClass_0 21 rfl rfl)
abbrev cJ8_ordinal : ByteArray := prog_51_method_2_code
def yJ8_ordinal : MethodName := ⟨RJ8, "ordinal", "()I"⟩
theorem dJ8_ordinal_0 : decode cJ8_ordinal 0 = .ok (.aload_n 0, 1) := by decide +kernel
theorem dJ8_ordinal_1 : decode cJ8_ordinal 1 = .ok (.getfield 7, 3) := by decide +kernel
theorem dJ8_ordinal_4 : decode cJ8_ordinal 4 = .ok (.ireturn, 1) := by decide +kernel
theorem q129 : (Jvm.Cond.initialized "java/lang/Enum") ∈ lw_all := lw_g (lw_at lw_m1 18 rfl) rfl
theorem q1032 : (Jvm.Cond.instanceMethod ({ cls := "java/lang/Enum", name := "hashCode", desc := "()I" } : Jvm.MethodName)) ∈ lw_all := lw_g (lw_at lw_m4 201 rfl) rfl
theorem q1033 : (Jvm.Cond.code ({ cls := "java/lang/Enum", name := "hashCode", desc := "()I" } : Jvm.MethodName) prog_51_method_6_code (2 : Nat) (Option.some Jvm.ClassFile.FieldType.int)) ∈ lw_all := lw_g (lw_at lw_m4 202 rfl) rfl
theorem q1034 : (Jvm.Cond.methodLink "java/lang/Enum" (20 : Nat) ({ cls := "java/lang/System", name := "identityHashCode", desc := "(Ljava/lang/Object;)I" } : Jvm.MethodName)) ∈ lw_all := lw_g (lw_at lw_m4 203 rfl) rfl
theorem q1147 : (Jvm.Cond.instanceMethod ({ cls := "java/lang/Enum", name := "equals", desc := "(Ljava/lang/Object;)Z" } : Jvm.MethodName)) ∈ lw_all := lw_g (lw_at lw_m5 76 rfl) rfl
theorem q1148 : (Jvm.Cond.code ({ cls := "java/lang/Enum", name := "equals", desc := "(Ljava/lang/Object;)Z" } : Jvm.MethodName) prog_51_method_5_code (2 : Nat) (Option.some Jvm.ClassFile.FieldType.boolean)) ∈ lw_all := lw_g (lw_at lw_m5 77 rfl) rfl
theorem q1227 : (Jvm.Cond.instanceMethod ({ cls := "java/lang/Enum", name := "compareTo", desc := "(Ljava/lang/Object;)I" } : Jvm.MethodName)) ∈ lw_all := lw_g (lw_at lw_m5 156 rfl) rfl
theorem q1228 : (Jvm.Cond.publicMethod ({ cls := "java/lang/Enum", name := "compareTo", desc := "(Ljava/lang/Object;)I" } : Jvm.MethodName)) ∈ lw_tbl := lw_at lw_m5 157 rfl
theorem q1229 : (Jvm.Cond.code ({ cls := "java/lang/Enum", name := "compareTo", desc := "(Ljava/lang/Object;)I" } : Jvm.MethodName) prog_51_method_15_code (2 : Nat) (Option.some Jvm.ClassFile.FieldType.int)) ∈ lw_all := lw_g (lw_at lw_m5 158 rfl) rfl
theorem q1230 : (Jvm.Cond.classLink "java/lang/Enum" (2 : Nat) "java/lang/Enum") ∈ lw_all := lw_g (lw_at lw_m5 159 rfl) rfl
theorem q1231 : (Jvm.Cond.methodLink "java/lang/Enum" (101 : Nat) ({ cls := "java/lang/Enum", name := "compareTo", desc := "(Ljava/lang/Enum;)I" } : Jvm.MethodName)) ∈ lw_all := lw_g (lw_at lw_m5 160 rfl) rfl
theorem q1232 : (Jvm.Cond.instanceMethod ({ cls := "java/lang/Enum", name := "compareTo", desc := "(Ljava/lang/Enum;)I" } : Jvm.MethodName)) ∈ lw_all := lw_g (lw_at lw_m5 161 rfl) rfl
theorem q1233 : (Jvm.Cond.sameMethod "java/lang/Enum" "java/lang/Enum" "compareTo" "(Ljava/lang/Enum;)I") ∈ lw_all := lw_g (lw_at lw_m5 162 rfl) rfl
theorem q1248 : (Jvm.Cond.code ({ cls := "java/lang/Enum", name := "compareTo", desc := "(Ljava/lang/Enum;)I" } : Jvm.MethodName) prog_51_method_8_code (4 : Nat) (Option.some Jvm.ClassFile.FieldType.int)) ∈ lw_all := lw_g (lw_at lw_m5 177 rfl) rfl
theorem q1249 : (Jvm.Cond.methodLink "java/lang/Enum" (29 : Nat) ({ cls := "java/lang/Object", name := "getClass", desc := "()Ljava/lang/Class;" } : Jvm.MethodName)) ∈ lw_all := lw_g (lw_at lw_m5 178 rfl) rfl
theorem q1250 : (Jvm.Cond.methodLink "java/lang/Enum" (33 : Nat) ({ cls := "java/lang/Enum", name := "getDeclaringClass", desc := "()Ljava/lang/Class;" } : Jvm.MethodName)) ∈ lw_all := lw_g (lw_at lw_m5 179 rfl) rfl
theorem q1251 : (Jvm.Cond.instanceMethod ({ cls := "java/lang/Enum", name := "getDeclaringClass", desc := "()Ljava/lang/Class;" } : Jvm.MethodName)) ∈ lw_all := lw_g (lw_at lw_m5 180 rfl) rfl
theorem q1252 : (Jvm.Cond.sameMethod "java/lang/Enum" "java/lang/Enum" "getDeclaringClass" "()Ljava/lang/Class;") ∈ lw_all := lw_g (lw_at lw_m5 181 rfl) rfl
theorem q1267 : (Jvm.Cond.code ({ cls := "java/lang/Enum", name := "getDeclaringClass", desc := "()Ljava/lang/Class;" } : Jvm.MethodName) prog_51_method_9_code (3 : Nat) (Option.some (Jvm.ClassFile.FieldType.object "java/lang/Class"))) ∈ lw_all := lw_g (lw_at lw_m5 196 rfl) rfl
theorem q2487 : (Jvm.Cond.declares ({ cls := "java/lang/Enum", name := "ordinal", desc := "()I" } : Jvm.MethodName)) ∈ lw_tbl := lw_at lw_m10 216 rfl
theorem q2491 : (Jvm.Cond.instanceMethod ({ cls := "java/lang/Enum", name := "ordinal", desc := "()I" } : Jvm.MethodName)) ∈ lw_all := lw_g (lw_at lw_m10 220 rfl) rfl
theorem q2492 : (Jvm.Cond.code ({ cls := "java/lang/Enum", name := "ordinal", desc := "()I" } : Jvm.MethodName) prog_51_method_2_code (1 : Nat) (Option.some Jvm.ClassFile.FieldType.int)) ∈ lw_all := lw_g (lw_at lw_m10 221 rfl) rfl
theorem q3394 : (Jvm.Cond.fieldLink "java/lang/Enum" (17 : Nat) "java/lang/Enum" "hash" "I") ∈ lw_all := lw_g (lw_at lw_m14 163 rfl) rfl
theorem q3395 : (Jvm.Cond.fieldLink "java/lang/Enum" (7 : Nat) "java/lang/Enum" "ordinal" "I") ∈ lw_all := lw_g (lw_at lw_m14 164 rfl) rfl

