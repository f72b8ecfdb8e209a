/-! java/util/ArrayList$Itr -/
set_option maxRecDepth 100000
def RJ32 : String := "java/util/ArrayList$Itr"
def TJ32 : u_T := fun k => match k with
  | 0 => ("java/util/ArrayList$Itr", "cursor", "I", false)
  | 1 => ("java/util/ArrayList$Itr", "lastRet", "I", false)
  | 2 => ("java/util/ArrayList$Itr", "expectedModCount", "I", false)
  | _ => ("java/util/ArrayList$Itr", "this$0", "Ljava/util/ArrayList;", true)
def tyJ32 : Nat → FieldType := fun k => match k with
  | 0 => .int
  | 1 => .int
  | 2 => .int
  | _ => .object "java/util/ArrayList"
abbrev wsJ320 : List Cond := u_ws RJ32 TJ32 4
theorem nmJ32 : ∀ a, a < 4 → ∀ b, b < 4 → a ≠ b → (TJ32 a).2.1 ≠ (TJ32 b).2.1 := by decide +kernel
theorem tyJ32_ok : ∀ k, k < 4 → parseFieldDescriptor (TJ32 k).2.2.1 = some (tyJ32 k) := by decide +kernel
abbrev cJ32_init : ByteArray := prog_76_method_1_code
def yJ32_init : MethodName := ⟨RJ32, "<init>", "(Ljava/util/ArrayList;)V"⟩
def dkwJ32_init_1 : List UInt8 := [181, 0, 22, 177]
abbrev dktJ32_init_1 : List UInt8 := dkwJ32_init_1 ++ []
def dkwJ32_init_0 : List UInt8 := [42, 43, 181, 0, 1, 42, 183, 0, 7, 42, 2, 181, 0, 13, 42, 42, 180, 0, 1, 180, 0, 17]
abbrev dktJ32_init_0 : List UInt8 := dkwJ32_init_0 ++ dktJ32_init_1
theorem dksJ32_init_0 : cJ32_init.data.toList.drop 0 = dktJ32_init_0 := by decide +kernel
theorem dksJ32_init_1 : cJ32_init.data.toList.drop 22 = dktJ32_init_1 := dk_seg dksJ32_init_0 22 rfl rfl
theorem dJ32_init_0 : decode cJ32_init 0 = .ok (.aload_n 0, 1) := dk_42 (dk_at dksJ32_init_0 0 rfl rfl)
theorem dJ32_init_1 : decode cJ32_init 1 = .ok (.aload_n 1, 1) := dk_43 (dk_at dksJ32_init_0 1 rfl rfl)
theorem dJ32_init_2 : decode cJ32_init 2 = .ok (.putfield 1, 3) := dk_181 0 1 (dk_at dksJ32_init_0 2 rfl rfl)
theorem dJ32_init_5 : decode cJ32_init 5 = .ok (.aload_n 0, 1) := dk_42 (dk_at dksJ32_init_0 5 rfl rfl)
theorem dJ32_init_6 : decode cJ32_init 6 = .ok (.invokespecial 7, 3) := dk_183 0 7 (dk_at dksJ32_init_0 6 rfl rfl)
theorem dJ32_init_9 : decode cJ32_init 9 = .ok (.aload_n 0, 1) := dk_42 (dk_at dksJ32_init_0 9 rfl rfl)
theorem dJ32_init_10 : decode cJ32_init 10 = .ok (.iconst (-1), 1) := dk_2 (dk_at dksJ32_init_0 10 rfl rfl)
theorem dJ32_init_11 : decode cJ32_init 11 = .ok (.putfield 13, 3) := dk_181 0 13 (dk_at dksJ32_init_0 11 rfl rfl)
theorem dJ32_init_14 : decode cJ32_init 14 = .ok (.aload_n 0, 1) := dk_42 (dk_at dksJ32_init_0 14 rfl rfl)
theorem dJ32_init_15 : decode cJ32_init 15 = .ok (.aload_n 0, 1) := dk_42 (dk_at dksJ32_init_0 15 rfl rfl)
theorem dJ32_init_16 : decode cJ32_init 16 = .ok (.getfield 1, 3) := dk_180 0 1 (dk_at dksJ32_init_0 16 rfl rfl)
theorem dJ32_init_19 : decode cJ32_init 19 = .ok (.getfield 17, 3) := dk_180 0 17 (dk_at dksJ32_init_0 19 rfl rfl)
theorem dJ32_init_22 : decode cJ32_init 22 = .ok (.putfield 22, 3) := dk_181 0 22 (dk_at dksJ32_init_1 0 rfl rfl)
theorem dJ32_init_25 : decode cJ32_init 25 = .ok (.return_, 1) := dk_177 (dk_at dksJ32_init_1 3 rfl rfl)
abbrev cJ32_hasNext : ByteArray := prog_76_method_2_code
def yJ32_hasNext : MethodName := ⟨RJ32, "hasNext", "()Z"⟩
def dkwJ32_hasNext_0 : List UInt8 := [42, 180, 0, 25, 42, 180, 0, 1, 180, 0, 28, 159, 0, 7, 4, 167, 0, 4, 3, 172]
abbrev dktJ32_hasNext_0 : List UInt8 := dkwJ32_hasNext_0 ++ []
theorem dksJ32_hasNext_0 : cJ32_hasNext.data.toList.drop 0 = dktJ32_hasNext_0 := by decide +kernel
theorem dJ32_hasNext_0 : decode cJ32_hasNext 0 = .ok (.aload_n 0, 1) := dk_42 (dk_at dksJ32_hasNext_0 0 rfl rfl)
theorem dJ32_hasNext_1 : decode cJ32_hasNext 1 = .ok (.getfield 25, 3) := dk_180 0 25 (dk_at dksJ32_hasNext_0 1 rfl rfl)
theorem dJ32_hasNext_4 : decode cJ32_hasNext 4 = .ok (.aload_n 0, 1) := dk_42 (dk_at dksJ32_hasNext_0 4 rfl rfl)
theorem dJ32_hasNext_5 : decode cJ32_hasNext 5 = .ok (.getfield 1, 3) := dk_180 0 1 (dk_at dksJ32_hasNext_0 5 rfl rfl)
theorem dJ32_hasNext_8 : decode cJ32_hasNext 8 = .ok (.getfield 28, 3) := dk_180 0 28 (dk_at dksJ32_hasNext_0 8 rfl rfl)
theorem dJ32_hasNext_11 : decode cJ32_hasNext 11 = .ok (.if_icmp .eq 7, 3) := dk_159 0 7 (dk_at dksJ32_hasNext_0 11 rfl rfl)
theorem dJ32_hasNext_14 : decode cJ32_hasNext 14 = .ok (.iconst 1, 1) := dk_4 (dk_at dksJ32_hasNext_0 14 rfl rfl)
theorem dJ32_hasNext_15 : decode cJ32_hasNext 15 = .ok (.goto 4, 3) := dk_167 0 4 (dk_at dksJ32_hasNext_0 15 rfl rfl)
theorem dJ32_hasNext_18 : decode cJ32_hasNext 18 = .ok (.iconst 0, 1) := dk_3 (dk_at dksJ32_hasNext_0 18 rfl rfl)
theorem dJ32_hasNext_19 : decode cJ32_hasNext 19 = .ok (.ireturn, 1) := dk_172 (dk_at dksJ32_hasNext_0 19 rfl rfl)
abbrev cJ32_next : ByteArray := prog_76_method_3_code
def yJ32_next : MethodName := ⟨RJ32, "next", "()Ljava/lang/Object;"⟩
def dkwJ32_next_2 : List UInt8 := [183, 0, 43, 191, 42, 27, 4, 96, 181, 0, 25, 44, 42, 27, 90, 181, 0, 13, 50, 176]
abbrev dktJ32_next_2 : List UInt8 := dkwJ32_next_2 ++ []
def dkwJ32_next_1 : List UInt8 := [183, 0, 36, 191, 42, 180, 0, 1, 180, 0, 37, 77, 27, 44, 190, 161, 0, 11, 187, 0, 41, 89]
abbrev dktJ32_next_1 : List UInt8 := dkwJ32_next_1 ++ dktJ32_next_2
def dkwJ32_next_0 : List UInt8 := [42, 182, 0, 31, 42, 180, 0, 25, 60, 27, 42, 180, 0, 1, 180, 0, 28, 161, 0, 11, 187, 0, 34, 89]
abbrev dktJ32_next_0 : List UInt8 := dkwJ32_next_0 ++ dktJ32_next_1
theorem dksJ32_next_0 : cJ32_next.data.toList.drop 0 = dktJ32_next_0 := by decide +kernel
theorem dksJ32_next_1 : cJ32_next.data.toList.drop 24 = dktJ32_next_1 := dk_seg dksJ32_next_0 24 rfl rfl
theorem dksJ32_next_2 : cJ32_next.data.toList.drop 46 = dktJ32_next_2 := dk_seg dksJ32_next_1 22 rfl rfl
theorem dJ32_next_0 : decode cJ32_next 0 = .ok (.aload_n 0, 1) := dk_42 (dk_at dksJ32_next_0 0 rfl rfl)
theorem dJ32_next_1 : decode cJ32_next 1 = .ok (.invokevirtual 31, 3) := dk_182 0 31 (dk_at dksJ32_next_0 1 rfl rfl)
theorem dJ32_next_4 : decode cJ32_next 4 = .ok (.aload_n 0, 1) := dk_42 (dk_at dksJ32_next_0 4 rfl rfl)
theorem dJ32_next_5 : decode cJ32_next 5 = .ok (.getfield 25, 3) := dk_180 0 25 (dk_at dksJ32_next_0 5 rfl rfl)
theorem dJ32_next_8 : decode cJ32_next 8 = .ok (.istore_n 1, 1) := dk_60 (dk_at dksJ32_next_0 8 rfl rfl)
theorem dJ32_next_9 : decode cJ32_next 9 = .ok (.iload_n 1, 1) := dk_27 (dk_at dksJ32_next_0 9 rfl rfl)
theorem dJ32_next_10 : decode cJ32_next 10 = .ok (.aload_n 0, 1) := dk_42 (dk_at dksJ32_next_0 10 rfl rfl)
theorem dJ32_next_11 : decode cJ32_next 11 = .ok (.getfield 1, 3) := dk_180 0 1 (dk_at dksJ32_next_0 11 rfl rfl)
theorem dJ32_next_14 : decode cJ32_next 14 = .ok (.getfield 28, 3) := dk_180 0 28 (dk_at dksJ32_next_0 14 rfl rfl)
theorem dJ32_next_17 : decode cJ32_next 17 = .ok (.if_icmp .lt 11, 3) := dk_161 0 11 (dk_at dksJ32_next_0 17 rfl rfl)
theorem dJ32_next_20 : decode cJ32_next 20 = .ok (.new 34, 3) := dk_187 0 34 (dk_at dksJ32_next_0 20 rfl rfl)
theorem dJ32_next_23 : decode cJ32_next 23 = .ok (.dup, 1) := dk_89 (dk_at dksJ32_next_0 23 rfl rfl)
theorem dJ32_next_24 : decode cJ32_next 24 = .ok (.invokespecial 36, 3) := dk_183 0 36 (dk_at dksJ32_next_1 0 rfl rfl)
theorem dJ32_next_27 : decode cJ32_next 27 = .ok (.athrow, 1) := dk_191 (dk_at dksJ32_next_1 3 rfl rfl)
theorem dJ32_next_28 : decode cJ32_next 28 = .ok (.aload_n 0, 1) := dk_42 (dk_at dksJ32_next_1 4 rfl rfl)
theorem dJ32_next_29 : decode cJ32_next 29 = .ok (.getfield 1, 3) := dk_180 0 1 (dk_at dksJ32_next_1 5 rfl rfl)
theorem dJ32_next_32 : decode cJ32_next 32 = .ok (.getfield 37, 3) := dk_180 0 37 (dk_at dksJ32_next_1 8 rfl rfl)
theorem dJ32_next_35 : decode cJ32_next 35 = .ok (.astore_n 2, 1) := dk_77 (dk_at dksJ32_next_1 11 rfl rfl)
theorem dJ32_next_36 : decode cJ32_next 36 = .ok (.iload_n 1, 1) := dk_27 (dk_at dksJ32_next_1 12 rfl rfl)
theorem dJ32_next_37 : decode cJ32_next 37 = .ok (.aload_n 2, 1) := dk_44 (dk_at dksJ32_next_1 13 rfl rfl)
theorem dJ32_next_38 : decode cJ32_next 38 = .ok (.arraylength, 1) := dk_190 (dk_at dksJ32_next_1 14 rfl rfl)
theorem dJ32_next_39 : decode cJ32_next 39 = .ok (.if_icmp .lt 11, 3) := dk_161 0 11 (dk_at dksJ32_next_1 15 rfl rfl)
theorem dJ32_next_42 : decode cJ32_next 42 = .ok (.new 41, 3) := dk_187 0 41 (dk_at dksJ32_next_1 18 rfl rfl)
theorem dJ32_next_45 : decode cJ32_next 45 = .ok (.dup, 1) := dk_89 (dk_at dksJ32_next_1 21 rfl rfl)
theorem dJ32_next_46 : decode cJ32_next 46 = .ok (.invokespecial 43, 3) := dk_183 0 43 (dk_at dksJ32_next_2 0 rfl rfl)
theorem dJ32_next_49 : decode cJ32_next 49 = .ok (.athrow, 1) := dk_191 (dk_at dksJ32_next_2 3 rfl rfl)
theorem dJ32_next_50 : decode cJ32_next 50 = .ok (.aload_n 0, 1) := dk_42 (dk_at dksJ32_next_2 4 rfl rfl)
theorem dJ32_next_51 : decode cJ32_next 51 = .ok (.iload_n 1, 1) := dk_27 (dk_at dksJ32_next_2 5 rfl rfl)
theorem dJ32_next_52 : decode cJ32_next 52 = .ok (.iconst 1, 1) := dk_4 (dk_at dksJ32_next_2 6 rfl rfl)
theorem dJ32_next_53 : decode cJ32_next 53 = .ok (.iadd, 1) := dk_96 (dk_at dksJ32_next_2 7 rfl rfl)
theorem dJ32_next_54 : decode cJ32_next 54 = .ok (.putfield 25, 3) := dk_181 0 25 (dk_at dksJ32_next_2 8 rfl rfl)
theorem dJ32_next_57 : decode cJ32_next 57 = .ok (.aload_n 2, 1) := dk_44 (dk_at dksJ32_next_2 11 rfl rfl)
theorem dJ32_next_58 : decode cJ32_next 58 = .ok (.aload_n 0, 1) := dk_42 (dk_at dksJ32_next_2 12 rfl rfl)
theorem dJ32_next_59 : decode cJ32_next 59 = .ok (.iload_n 1, 1) := dk_27 (dk_at dksJ32_next_2 13 rfl rfl)
theorem dJ32_next_60 : decode cJ32_next 60 = .ok (.dup_x1, 1) := dk_90 (dk_at dksJ32_next_2 14 rfl rfl)
theorem dJ32_next_61 : decode cJ32_next 61 = .ok (.putfield 13, 3) := dk_181 0 13 (dk_at dksJ32_next_2 15 rfl rfl)
theorem dJ32_next_64 : decode cJ32_next 64 = .ok (.aaload, 1) := dk_50 (dk_at dksJ32_next_2 18 rfl rfl)
theorem dJ32_next_65 : decode cJ32_next 65 = .ok (.areturn, 1) := dk_176 (dk_at dksJ32_next_2 19 rfl rfl)
abbrev cJ32_checkForComodification : ByteArray := prog_76_method_6_code
def yJ32_checkForComodification : MethodName := ⟨RJ32, "checkForComodification", "()V"⟩
def dkwJ32_checkForComodification_0 : List UInt8 := [42, 180, 0, 1, 180, 0, 17, 42, 180, 0, 22, 159, 0, 11, 187, 0, 41, 89, 183, 0, 43, 191, 177]
abbrev dktJ32_checkForComodification_0 : List UInt8 := dkwJ32_checkForComodification_0 ++ []
theorem dksJ32_checkForComodification_0 : cJ32_checkForComodification.data.toList.drop 0 = dktJ32_checkForComodification_0 := by decide +kernel
theorem dJ32_checkForComodification_0 : decode cJ32_checkForComodification 0 = .ok (.aload_n 0, 1) := dk_42 (dk_at dksJ32_checkForComodification_0 0 rfl rfl)
theorem dJ32_checkForComodification_1 : decode cJ32_checkForComodification 1 = .ok (.getfield 1, 3) := dk_180 0 1 (dk_at dksJ32_checkForComodification_0 1 rfl rfl)
theorem dJ32_checkForComodification_4 : decode cJ32_checkForComodification 4 = .ok (.getfield 17, 3) := dk_180 0 17 (dk_at dksJ32_checkForComodification_0 4 rfl rfl)
theorem dJ32_checkForComodification_7 : decode cJ32_checkForComodification 7 = .ok (.aload_n 0, 1) := dk_42 (dk_at dksJ32_checkForComodification_0 7 rfl rfl)
theorem dJ32_checkForComodification_8 : decode cJ32_checkForComodification 8 = .ok (.getfield 22, 3) := dk_180 0 22 (dk_at dksJ32_checkForComodification_0 8 rfl rfl)
theorem dJ32_checkForComodification_11 : decode cJ32_checkForComodification 11 = .ok (.if_icmp .eq 11, 3) := dk_159 0 11 (dk_at dksJ32_checkForComodification_0 11 rfl rfl)
theorem dJ32_checkForComodification_14 : decode cJ32_checkForComodification 14 = .ok (.new 41, 3) := dk_187 0 41 (dk_at dksJ32_checkForComodification_0 14 rfl rfl)
theorem dJ32_checkForComodification_17 : decode cJ32_checkForComodification 17 = .ok (.dup, 1) := dk_89 (dk_at dksJ32_checkForComodification_0 17 rfl rfl)
theorem dJ32_checkForComodification_18 : decode cJ32_checkForComodification 18 = .ok (.invokespecial 43, 3) := dk_183 0 43 (dk_at dksJ32_checkForComodification_0 18 rfl rfl)
theorem dJ32_checkForComodification_21 : decode cJ32_checkForComodification 21 = .ok (.athrow, 1) := dk_191 (dk_at dksJ32_checkForComodification_0 21 rfl rfl)
theorem dJ32_checkForComodification_22 : decode cJ32_checkForComodification 22 = .ok (.return_, 1) := dk_177 (dk_at dksJ32_checkForComodification_0 22 rfl rfl)
theorem q176 : (Jvm.Cond.initialized "java/util/ArrayList$Itr") ∈ lw_all := lw_g (lw_at lw_m1 65 rfl) rfl
theorem q222 : (Jvm.Cond.fieldLink "java/util/ArrayList$Itr" (37 : Nat) "java/util/ArrayList" "elementData" "[Ljava/lang/Object;") ∈ lw_all := lw_g (lw_at lw_m1 111 rfl) rfl
theorem q223 : (Jvm.Cond.fieldLinkNest "java/util/ArrayList$Itr" (28 : Nat) "java/util/ArrayList" "size" "I" "java/util/ArrayList") ∈ lw_tbl := lw_at lw_m1 112 rfl
theorem q226 : (Jvm.Cond.fieldLink "java/util/ArrayList$Itr" (17 : Nat) "java/util/ArrayList" "modCount" "I") ∈ lw_all := lw_g (lw_at lw_m1 115 rfl) rfl
theorem q848 : (Jvm.Cond.selects "java/util/ArrayList$Itr" ({ cls := "java/lang/Object", name := "getClass", desc := "()Ljava/lang/Class;" } : Jvm.MethodName) ({ cls := "java/lang/Object", name := "getClass", desc := "()Ljava/lang/Class;" } : Jvm.MethodName)) ∈ lw_all := lw_g (lw_at lw_m4 17 rfl) rfl
theorem q2309 : (Jvm.Cond.instantiable "java/util/ArrayList$Itr" (4 : Nat)) ∈ lw_all := lw_g (lw_at lw_m10 38 rfl) rfl
theorem q2311 : (Jvm.Cond.instanceMethod ({ cls := "java/util/ArrayList$Itr", name := "<init>", desc := "(Ljava/util/ArrayList;)V" } : Jvm.MethodName)) ∈ lw_all := lw_g (lw_at lw_m10 40 rfl) rfl
theorem q2312 : (Jvm.Cond.code ({ cls := "java/util/ArrayList$Itr", name := "<init>", desc := "(Ljava/util/ArrayList;)V" } : Jvm.MethodName) prog_76_method_1_code (2 : Nat) (Option.none : Option Jvm.ClassFile.FieldType)) ∈ lw_all := lw_g (lw_at lw_m10 41 rfl) rfl
theorem q2313 : (Jvm.Cond.methodLink "java/util/ArrayList$Itr" (7 : Nat) ({ cls := "java/lang/Object", name := "<init>", desc := "()V" } : Jvm.MethodName)) ∈ lw_all := lw_g (lw_at lw_m10 42 rfl) rfl
theorem q2314 : (Jvm.Cond.fieldLink "java/util/ArrayList$Itr" (25 : Nat) "java/util/ArrayList$Itr" "cursor" "I") ∈ lw_all := lw_g (lw_at lw_m10 43 rfl) rfl
theorem q2315 : (Jvm.Cond.fieldLink "java/util/ArrayList$Itr" (13 : Nat) "java/util/ArrayList$Itr" "lastRet" "I") ∈ lw_all := lw_g (lw_at lw_m10 44 rfl) rfl
theorem q2316 : (Jvm.Cond.fieldLink "java/util/ArrayList$Itr" (22 : Nat) "java/util/ArrayList$Itr" "expectedModCount" "I") ∈ lw_all := lw_g (lw_at lw_m10 45 rfl) rfl
theorem q2317 : (Jvm.Cond.fieldLink "java/util/ArrayList$Itr" (1 : Nat) "java/util/ArrayList$Itr" "this$0" "Ljava/util/ArrayList;") ∈ lw_all := lw_g (lw_at lw_m10 46 rfl) rfl
theorem q2318 : (Jvm.Cond.lays "java/util/ArrayList$Itr" "java/util/ArrayList$Itr" "cursor" "I") ∈ lw_all := lw_g (lw_at lw_m10 47 rfl) rfl
theorem q2319 : (Jvm.Cond.soleField "java/util/ArrayList$Itr" "cursor") ∈ lw_all := lw_g (lw_at lw_m10 48 rfl) rfl
theorem q2320 : (Jvm.Cond.lays "java/util/ArrayList$Itr" "java/util/ArrayList$Itr" "lastRet" "I") ∈ lw_all := lw_g (lw_at lw_m10 49 rfl) rfl
theorem q2321 : (Jvm.Cond.soleField "java/util/ArrayList$Itr" "lastRet") ∈ lw_all := lw_g (lw_at lw_m10 50 rfl) rfl
theorem q2322 : (Jvm.Cond.lays "java/util/ArrayList$Itr" "java/util/ArrayList$Itr" "expectedModCount" "I") ∈ lw_all := lw_g (lw_at lw_m10 51 rfl) rfl
theorem q2323 : (Jvm.Cond.soleField "java/util/ArrayList$Itr" "expectedModCount") ∈ lw_all := lw_g (lw_at lw_m10 52 rfl) rfl
theorem q2324 : (Jvm.Cond.laysFinal "java/util/ArrayList$Itr" "java/util/ArrayList$Itr" "this$0" "Ljava/util/ArrayList;") ∈ lw_all := lw_g (lw_at lw_m10 53 rfl) rfl
theorem q2325 : (Jvm.Cond.soleField "java/util/ArrayList$Itr" "this$0") ∈ lw_all := lw_g (lw_at lw_m10 54 rfl) rfl
theorem q2326 : (Jvm.Cond.superclass "java/util/ArrayList$Itr" "java/lang/Object") ∈ lw_all := lw_g (lw_at lw_m10 55 rfl) rfl
theorem q2331 : (Jvm.Cond.castable "java/util/ArrayList$Itr" "java/util/Iterator") ∈ lw_tbl := lw_at lw_m10 60 rfl
theorem q2332 : (Jvm.Cond.selects "java/util/ArrayList$Itr" ({ cls := "java/util/Iterator", name := "hasNext", desc := "()Z" } : Jvm.MethodName) ({ cls := "java/util/ArrayList$Itr", name := "hasNext", desc := "()Z" } : Jvm.MethodName)) ∈ lw_all := lw_g (lw_at lw_m10 61 rfl) rfl
theorem q2333 : (Jvm.Cond.unhidden "java/util/ArrayList$Itr" "hasNext" "()Z") ∈ lw_tbl := lw_at lw_m10 62 rfl
theorem q2334 : (Jvm.Cond.instanceMethod ({ cls := "java/util/ArrayList$Itr", name := "hasNext", desc := "()Z" } : Jvm.MethodName)) ∈ lw_all := lw_g (lw_at lw_m10 63 rfl) rfl
theorem q2335 : (Jvm.Cond.publicMethod ({ cls := "java/util/ArrayList$Itr", name := "hasNext", desc := "()Z" } : Jvm.MethodName)) ∈ lw_tbl := lw_at lw_m10 64 rfl
theorem q2336 : (Jvm.Cond.code ({ cls := "java/util/ArrayList$Itr", name := "hasNext", desc := "()Z" } : Jvm.MethodName) prog_76_method_2_code (1 : Nat) (Option.some Jvm.ClassFile.FieldType.boolean)) ∈ lw_all := lw_g (lw_at lw_m10 65 rfl) rfl
theorem q2341 : (Jvm.Cond.selects "java/util/ArrayList$Itr" ({ cls := "java/util/Iterator", name := "next", desc := "()Ljava/lang/Object;" } : Jvm.MethodName) ({ cls := "java/util/ArrayList$Itr", name := "next", desc := "()Ljava/lang/Object;" } : Jvm.MethodName)) ∈ lw_all := lw_g (lw_at lw_m10 70 rfl) rfl
theorem q2342 : (Jvm.Cond.unhidden "java/util/ArrayList$Itr" "next" "()Ljava/lang/Object;") ∈ lw_tbl := lw_at lw_m10 71 rfl
theorem q2343 : (Jvm.Cond.instanceMethod ({ cls := "java/util/ArrayList$Itr", name := "next", desc := "()Ljava/lang/Object;" } : Jvm.MethodName)) ∈ lw_all := lw_g (lw_at lw_m10 72 rfl) rfl
theorem q2344 : (Jvm.Cond.publicMethod ({ cls := "java/util/ArrayList$Itr", name := "next", desc := "()Ljava/lang/Object;" } : Jvm.MethodName)) ∈ lw_tbl := lw_at lw_m10 73 rfl
theorem q2345 : (Jvm.Cond.code ({ cls := "java/util/ArrayList$Itr", name := "next", desc := "()Ljava/lang/Object;" } : Jvm.MethodName) prog_76_method_3_code (3 : Nat) (Option.some (Jvm.ClassFile.FieldType.object "java/lang/Object"))) ∈ lw_all := lw_g (lw_at lw_m10 74 rfl) rfl
theorem q2346 : (Jvm.Cond.methodLink "java/util/ArrayList$Itr" (31 : Nat) ({ cls := "java/util/ArrayList$Itr", name := "checkForComodification", desc := "()V" } : Jvm.MethodName)) ∈ lw_all := lw_g (lw_at lw_m10 75 rfl) rfl
theorem q2347 : (Jvm.Cond.instanceMethod ({ cls := "java/util/ArrayList$Itr", name := "checkForComodification", desc := "()V" } : Jvm.MethodName)) ∈ lw_all := lw_g (lw_at lw_m10 76 rfl) rfl
theorem q2348 : (Jvm.Cond.selects "java/util/ArrayList$Itr" ({ cls := "java/util/ArrayList$Itr", name := "checkForComodification", desc := "()V" } : Jvm.MethodName) ({ cls := "java/util/ArrayList$Itr", name := "checkForComodification", desc := "()V" } : Jvm.MethodName)) ∈ lw_all := lw_g (lw_at lw_m10 77 rfl) rfl
theorem q2349 : (Jvm.Cond.code ({ cls := "java/util/ArrayList$Itr", name := "checkForComodification", desc := "()V" } : Jvm.MethodName) prog_76_method_6_code (1 : Nat) (Option.none : Option Jvm.ClassFile.FieldType)) ∈ lw_all := lw_g (lw_at lw_m10 78 rfl) rfl
theorem q3376 : (Jvm.Cond.castable "java/util/ArrayList$Itr" "java/lang/Object") ∈ lw_tbl := lw_at lw_m14 145 rfl
theorem in_J32 : ∀ w ∈ wsJ320, w ∈ lw_all := lw_in wsJ320 [2318, 2320, 2322, 2324] (by decide +kernel) (by decide +kernel)

/-! java/lang/Object -/
set_option maxRecDepth 100000
def RJ33 : String := "java/lang/Object"
abbrev cJ33_init : ByteArray := object_method_1_code
def yJ33_init : MethodName := ⟨RJ33, "<init>", "()V"⟩
theorem dJ33_init_0 : decode cJ33_init 0 = .ok (.return_, 1) := by decide +kernel
abbrev cJ33_equals : ByteArray := object_method_4_code
def yJ33_equals : MethodName := ⟨RJ33, "equals", "(Ljava/lang/Object;)Z"⟩
def dkwJ33_equals_0 : List UInt8 := [42, 43, 166, 0, 7, 4, 167, 0, 4, 3, 172]
abbrev dktJ33_equals_0 : List UInt8 := dkwJ33_equals_0 ++ []
theorem dksJ33_equals_0 : cJ33_equals.data.toList.drop 0 = dktJ33_equals_0 := by decide +kernel
theorem dJ33_equals_0 : decode cJ33_equals 0 = .ok (.aload_n 0, 1) := dk_42 (dk_at dksJ33_equals_0 0 rfl rfl)
theorem dJ33_equals_1 : decode cJ33_equals 1 = .ok (.aload_n 1, 1) := dk_43 (dk_at dksJ33_equals_0 1 rfl rfl)
theorem dJ33_equals_2 : decode cJ33_equals 2 = .ok (.if_acmp .ne 7, 3) := dk_166 0 7 (dk_at dksJ33_equals_0 2 rfl rfl)
theorem dJ33_equals_5 : decode cJ33_equals 5 = .ok (.iconst 1, 1) := dk_4 (dk_at dksJ33_equals_0 5 rfl rfl)
theorem dJ33_equals_6 : decode cJ33_equals 6 = .ok (.goto 4, 3) := dk_167 0 4 (dk_at dksJ33_equals_0 6 rfl rfl)
theorem dJ33_equals_9 : decode cJ33_equals 9 = .ok (.iconst 0, 1) := dk_3 (dk_at dksJ33_equals_0 9 rfl rfl)
theorem dJ33_equals_10 : decode cJ33_equals 10 = .ok (.ireturn, 1) := dk_172 (dk_at dksJ33_equals_0 10 rfl rfl)
theorem q183 : (Jvm.Cond.instanceMethod ({ cls := "java/lang/Object", name := "<init>", desc := "()V" } : Jvm.MethodName)) ∈ lw_all := lw_g (lw_at lw_m1 72 rfl) rfl
theorem q184 : (Jvm.Cond.code ({ cls := "java/lang/Object", name := "<init>", desc := "()V" } : Jvm.MethodName) object_method_1_code (1 : Nat) (Option.none : Option Jvm.ClassFile.FieldType)) ∈ lw_all := lw_g (lw_at lw_m1 73 rfl) rfl
theorem q437 : (Jvm.Cond.native ({ cls := "java/lang/Object", name := "clone", desc := "()Ljava/lang/Object;" } : Jvm.MethodName)) ∈ lw_all := lw_g (lw_at lw_m2 86 rfl) rfl
theorem q438 : (Jvm.Cond.instanceMethod ({ cls := "java/lang/Object", name := "clone", desc := "()Ljava/lang/Object;" } : Jvm.MethodName)) ∈ lw_all := lw_g (lw_at lw_m2 87 rfl) rfl
theorem q801 : (Jvm.Cond.instanceMethod ({ cls := "java/lang/Object", name := "getClass", desc := "()Ljava/lang/Class;" } : Jvm.MethodName)) ∈ lw_all := lw_g (lw_at lw_m3 210 rfl) rfl
theorem q802 : (Jvm.Cond.sameMethod "java/lang/Object" "java/lang/Object" "getClass" "()Ljava/lang/Class;") ∈ lw_all := lw_g (lw_at lw_m3 211 rfl) rfl
theorem q854 : (Jvm.Cond.native ({ cls := "java/lang/Object", name := "getClass", desc := "()Ljava/lang/Class;" } : Jvm.MethodName)) ∈ lw_all := lw_g (lw_at lw_m4 23 rfl) rfl
theorem q1023 : (Jvm.Cond.declares ({ cls := "java/lang/Object", name := "hashCode", desc := "()I" } : Jvm.MethodName)) ∈ lw_tbl := lw_at lw_m4 192 rfl
theorem q1025 : (Jvm.Cond.instanceMethod ({ cls := "java/lang/Object", name := "hashCode", desc := "()I" } : Jvm.MethodName)) ∈ lw_all := lw_g (lw_at lw_m4 194 rfl) rfl
theorem q1026 : (Jvm.Cond.sameMethod "java/lang/Object" "java/lang/Object" "hashCode" "()I") ∈ lw_all := lw_g (lw_at lw_m4 195 rfl) rfl
theorem q1137 : (Jvm.Cond.native ({ cls := "java/lang/Object", name := "hashCode", desc := "()I" } : Jvm.MethodName)) ∈ lw_all := lw_g (lw_at lw_m5 66 rfl) rfl
theorem q1138 : (Jvm.Cond.declares ({ cls := "java/lang/Object", name := "equals", desc := "(Ljava/lang/Object;)Z" } : Jvm.MethodName)) ∈ lw_tbl := lw_at lw_m5 67 rfl
theorem q1140 : (Jvm.Cond.instanceMethod ({ cls := "java/lang/Object", name := "equals", desc := "(Ljava/lang/Object;)Z" } : Jvm.MethodName)) ∈ lw_all := lw_g (lw_at lw_m5 69 rfl) rfl
theorem q1141 : (Jvm.Cond.sameMethod "java/lang/Object" "java/lang/Object" "equals" "(Ljava/lang/Object;)Z") ∈ lw_all := lw_g (lw_at lw_m5 70 rfl) rfl
theorem q1196 : (Jvm.Cond.code ({ cls := "java/lang/Object", name := "equals", desc := "(Ljava/lang/Object;)Z" } : Jvm.MethodName) object_method_4_code (2 : Nat) (Option.some Jvm.ClassFile.FieldType.boolean)) ∈ lw_all := lw_g (lw_at lw_m5 125 rfl) rfl
theorem q3304 : (Jvm.Cond.initialized "java/lang/Object") ∈ lw_all := lw_g (lw_at lw_m14 73 rfl) rfl
theorem q3381 : (Jvm.Cond.declares ({ cls := "java/lang/Object", name := "getClass", desc := "()Ljava/lang/Class;" } : Jvm.MethodName)) ∈ lw_tbl := lw_at lw_m14 150 rfl

/-! GridTable$What$1 -/
set_option maxRecDepth 100000
def RX25 : String := "GridTable$What$1"
abbrev cX25_of : ByteArray := prog_36_method_2_code
def yX25_of : MethodName := ⟨RX25, "of", "(LGridTable$Table;I)I"⟩
def dkwX25_of_0 : List UInt8 := [43, 180, 0, 7, 28, 46, 172]
abbrev dktX25_of_0 : List UInt8 := dkwX25_of_0 ++ []
theorem dksX25_of_0 : cX25_of.data.toList.drop 0 = dktX25_of_0 := by decide +kernel
theorem dX25_of_0 : decode cX25_of 0 = .ok (.aload_n 1, 1) := dk_43 (dk_at dksX25_of_0 0 rfl rfl)
theorem dX25_of_1 : decode cX25_of 1 = .ok (.getfield 7, 3) := dk_180 0 7 (dk_at dksX25_of_0 1 rfl rfl)
theorem dX25_of_4 : decode cX25_of 4 = .ok (.iload_n 2, 1) := dk_28 (dk_at dksX25_of_0 4 rfl rfl)
theorem dX25_of_5 : decode cX25_of 5 = .ok (.iaload, 1) := dk_46 (dk_at dksX25_of_0 5 rfl rfl)
theorem dX25_of_6 : decode cX25_of 6 = .ok (.ireturn, 1) := dk_172 (dk_at dksX25_of_0 6 rfl rfl)
theorem q238 : (Jvm.Cond.fieldLinkNest "GridTable$What$1" (7 : Nat) "GridTable$Table" "xs" "[I" "GridTable") ∈ lw_tbl := lw_at lw_m1 127 rfl
theorem q833 : (Jvm.Cond.selects "GridTable$What$1" ({ cls := "java/lang/Object", name := "getClass", desc := "()Ljava/lang/Class;" } : Jvm.MethodName) ({ cls := "java/lang/Object", name := "getClass", desc := "()Ljava/lang/Class;" } : Jvm.MethodName)) ∈ lw_all := lw_g (lw_at lw_m4 2 rfl) rfl
theorem q1062 : (Jvm.Cond.selects "GridTable$What$1" ({ cls := "java/lang/Object", name := "hashCode", desc := "()I" } : Jvm.MethodName) ({ cls := "java/lang/Enum", name := "hashCode", desc := "()I" } : Jvm.MethodName)) ∈ lw_all := lw_g (lw_at lw_m4 231 rfl) rfl
theorem q1174 : (Jvm.Cond.selects "GridTable$What$1" ({ cls := "java/lang/Object", name := "equals", desc := "(Ljava/lang/Object;)Z" } : Jvm.MethodName) ({ cls := "java/lang/Enum", name := "equals", desc := "(Ljava/lang/Object;)Z" } : Jvm.MethodName)) ∈ lw_all := lw_g (lw_at lw_m5 103 rfl) rfl
theorem q1245 : (Jvm.Cond.selects "GridTable$What$1" ({ cls := "java/lang/Enum", name := "compareTo", desc := "(Ljava/lang/Enum;)I" } : Jvm.MethodName) ({ cls := "java/lang/Enum", name := "compareTo", desc := "(Ljava/lang/Enum;)I" } : Jvm.MethodName)) ∈ lw_all := lw_g (lw_at lw_m5 174 rfl) rfl
theorem q1264 : (Jvm.Cond.selects "GridTable$What$1" ({ cls := "java/lang/Enum", name := "getDeclaringClass", desc := "()Ljava/lang/Class;" } : Jvm.MethodName) ({ cls := "java/lang/Enum", name := "getDeclaringClass", desc := "()Ljava/lang/Class;" } : Jvm.MethodName)) ∈ lw_all := lw_g (lw_at lw_m5 193 rfl) rfl
theorem q1298 : (Jvm.Cond.castable "GridTable$What$1" "java/lang/Comparable") ∈ lw_tbl := lw_at lw_m5 227 rfl
theorem q1299 : (Jvm.Cond.selects "GridTable$What$1" ({ cls := "java/lang/Comparable", name := "compareTo", desc := "(Ljava/lang/Object;)I" } : Jvm.MethodName) ({ cls := "java/lang/Enum", name := "compareTo", desc := "(Ljava/lang/Object;)I" } : Jvm.MethodName)) ∈ lw_all := lw_g (lw_at lw_m5 228 rfl) rfl
theorem q1300 : (Jvm.Cond.unhidden "GridTable$What$1" "compareTo" "(Ljava/lang/Object;)I") ∈ lw_tbl := lw_at lw_m5 229 rfl
theorem q1698 : (Jvm.Cond.selects "GridTable$What$1" ({ cls := "GridTable$What", name := "of", desc := "(LGridTable$Table;I)I" } : Jvm.MethodName) ({ cls := "GridTable$What$1", name := "of", desc := "(LGridTable$Table;I)I" } : Jvm.MethodName)) ∈ lw_all := lw_g (lw_at lw_m7 147 rfl) rfl
theorem q1699 : (Jvm.Cond.instanceMethod ({ cls := "GridTable$What$1", name := "of", desc := "(LGridTable$Table;I)I" } : Jvm.MethodName)) ∈ lw_all := lw_g (lw_at lw_m7 148 rfl) rfl
theorem q1700 : (Jvm.Cond.code ({ cls := "GridTable$What$1", name := "of", desc := "(LGridTable$Table;I)I" } : Jvm.MethodName) prog_36_method_2_code (3 : Nat) (Option.some Jvm.ClassFile.FieldType.int)) ∈ lw_all := lw_g (lw_at lw_m7 149 rfl) rfl
theorem q3317 : (Jvm.Cond.castable "GridTable$What$1" "java/lang/Enum") ∈ lw_tbl := lw_at lw_m14 86 rfl
theorem q3350 : (Jvm.Cond.castable "GridTable$What$1" "java/lang/Object") ∈ lw_tbl := lw_at lw_m14 119 rfl

/-! GridTable$Deed$2 -/
set_option maxRecDepth 100000
def RX26 : String := "GridTable$Deed$2"
abbrev cX26_carry : ByteArray := prog_7_method_2_code
def yX26_carry : MethodName := ⟨RX26, "carry", "(LGridTable$Table;LGridTable$Step;)V"⟩
def dkwX26_carry_4 : List UInt8 := [132, 7, 1, 167, 255, 207, 177]
abbrev dktX26_carry_4 : List UInt8 := dkwX26_carry_4 ++ []
def dkwX26_carry_3 : List UInt8 := [21, 8, 46, 21, 4, 100, 100, 133, 21, 4, 43, 180, 0, 7, 21, 8, 46, 29, 100, 96, 133, 182, 0, 40]
abbrev dktX26_carry_3 : List UInt8 := dkwX26_carry_3 ++ dktX26_carry_4
def dkwX26_carry_2 : List UInt8 := [54, 7, 21, 7, 21, 6, 162, 0, 48, 25, 5, 21, 7, 46, 54, 8, 43, 21, 8, 29, 43, 180, 0, 19]
abbrev dktX26_carry_2 : List UInt8 := dkwX26_carry_2 ++ dktX26_carry_3
def dkwX26_carry_1 : List UInt8 := [180, 0, 22, 44, 180, 0, 26, 182, 0, 29, 192, 0, 35, 180, 0, 37, 58, 5, 25, 5, 190, 54, 6, 3]
abbrev dktX26_carry_1 : List UInt8 := dkwX26_carry_1 ++ dktX26_carry_2
def dkwX26_carry_0 : List UInt8 := [43, 180, 0, 7, 44, 180, 0, 13, 46, 62, 43, 180, 0, 19, 44, 180, 0, 13, 46, 54, 4, 43]
abbrev dktX26_carry_0 : List UInt8 := dkwX26_carry_0 ++ dktX26_carry_1
theorem dksX26_carry_0 : cX26_carry.data.toList.drop 0 = dktX26_carry_0 := by decide +kernel
theorem dksX26_carry_1 : cX26_carry.data.toList.drop 22 = dktX26_carry_1 := dk_seg dksX26_carry_0 22 rfl rfl
theorem dksX26_carry_2 : cX26_carry.data.toList.drop 46 = dktX26_carry_2 := dk_seg dksX26_carry_1 24 rfl rfl
theorem dksX26_carry_3 : cX26_carry.data.toList.drop 70 = dktX26_carry_3 := dk_seg dksX26_carry_2 24 rfl rfl
theorem dksX26_carry_4 : cX26_carry.data.toList.drop 94 = dktX26_carry_4 := dk_seg dksX26_carry_3 24 rfl rfl
theorem dX26_carry_0 : decode cX26_carry 0 = .ok (.aload_n 1, 1) := dk_43 (dk_at dksX26_carry_0 0 rfl rfl)
theorem dX26_carry_1 : decode cX26_carry 1 = .ok (.getfield 7, 3) := dk_180 0 7 (dk_at dksX26_carry_0 1 rfl rfl)
theorem dX26_carry_4 : decode cX26_carry 4 = .ok (.aload_n 2, 1) := dk_44 (dk_at dksX26_carry_0 4 rfl rfl)
theorem dX26_carry_5 : decode cX26_carry 5 = .ok (.getfield 13, 3) := dk_180 0 13 (dk_at dksX26_carry_0 5 rfl rfl)
theorem dX26_carry_8 : decode cX26_carry 8 = .ok (.iaload, 1) := dk_46 (dk_at dksX26_carry_0 8 rfl rfl)
theorem dX26_carry_9 : decode cX26_carry 9 = .ok (.istore_n 3, 1) := dk_62 (dk_at dksX26_carry_0 9 rfl rfl)
theorem dX26_carry_10 : decode cX26_carry 10 = .ok (.aload_n 1, 1) := dk_43 (dk_at dksX26_carry_0 10 rfl rfl)
theorem dX26_carry_11 : decode cX26_carry 11 = .ok (.getfield 19, 3) := dk_180 0 19 (dk_at dksX26_carry_0 11 rfl rfl)
theorem dX26_carry_14 : decode cX26_carry 14 = .ok (.aload_n 2, 1) := dk_44 (dk_at dksX26_carry_0 14 rfl rfl)
theorem dX26_carry_15 : decode cX26_carry 15 = .ok (.getfield 13, 3) := dk_180 0 13 (dk_at dksX26_carry_0 15 rfl rfl)
theorem dX26_carry_18 : decode cX26_carry 18 = .ok (.iaload, 1) := dk_46 (dk_at dksX26_carry_0 18 rfl rfl)
theorem dX26_carry_19 : decode cX26_carry 19 = .ok (.istore 4, 2) := dk_54 4 (dk_at dksX26_carry_0 19 rfl rfl)
theorem dX26_carry_21 : decode cX26_carry 21 = .ok (.aload_n 1, 1) := dk_43 (dk_at dksX26_carry_0 21 rfl rfl)
theorem dX26_carry_22 : decode cX26_carry 22 = .ok (.getfield 22, 3) := dk_180 0 22 (dk_at dksX26_carry_1 0 rfl rfl)
theorem dX26_carry_25 : decode cX26_carry 25 = .ok (.aload_n 2, 1) := dk_44 (dk_at dksX26_carry_1 3 rfl rfl)
theorem dX26_carry_26 : decode cX26_carry 26 = .ok (.getfield 26, 3) := dk_180 0 26 (dk_at dksX26_carry_1 4 rfl rfl)
theorem dX26_carry_29 : decode cX26_carry 29 = .ok (.invokevirtual 29, 3) := dk_182 0 29 (dk_at dksX26_carry_1 7 rfl rfl)
theorem dX26_carry_32 : decode cX26_carry 32 = .ok (.checkcast 35, 3) := dk_192 0 35 (dk_at dksX26_carry_1 10 rfl rfl)
theorem dX26_carry_35 : decode cX26_carry 35 = .ok (.getfield 37, 3) := dk_180 0 37 (dk_at dksX26_carry_1 13 rfl rfl)
theorem dX26_carry_38 : decode cX26_carry 38 = .ok (.astore 5, 2) := dk_58 5 (dk_at dksX26_carry_1 16 rfl rfl)
theorem dX26_carry_40 : decode cX26_carry 40 = .ok (.aload 5, 2) := dk_25 5 (dk_at dksX26_carry_1 18 rfl rfl)
theorem dX26_carry_42 : decode cX26_carry 42 = .ok (.arraylength, 1) := dk_190 (dk_at dksX26_carry_1 20 rfl rfl)
theorem dX26_carry_43 : decode cX26_carry 43 = .ok (.istore 6, 2) := dk_54 6 (dk_at dksX26_carry_1 21 rfl rfl)
theorem dX26_carry_45 : decode cX26_carry 45 = .ok (.iconst 0, 1) := dk_3 (dk_at dksX26_carry_1 23 rfl rfl)
theorem dX26_carry_46 : decode cX26_carry 46 = .ok (.istore 7, 2) := dk_54 7 (dk_at dksX26_carry_2 0 rfl rfl)
theorem dX26_carry_48 : decode cX26_carry 48 = .ok (.iload 7, 2) := dk_21 7 (dk_at dksX26_carry_2 2 rfl rfl)
theorem dX26_carry_50 : decode cX26_carry 50 = .ok (.iload 6, 2) := dk_21 6 (dk_at dksX26_carry_2 4 rfl rfl)
theorem dX26_carry_52 : decode cX26_carry 52 = .ok (.if_icmp .ge 48, 3) := dk_162 0 48 (dk_at dksX26_carry_2 6 rfl rfl)
theorem dX26_carry_55 : decode cX26_carry 55 = .ok (.aload 5, 2) := dk_25 5 (dk_at dksX26_carry_2 9 rfl rfl)
theorem dX26_carry_57 : decode cX26_carry 57 = .ok (.iload 7, 2) := dk_21 7 (dk_at dksX26_carry_2 11 rfl rfl)
theorem dX26_carry_59 : decode cX26_carry 59 = .ok (.iaload, 1) := dk_46 (dk_at dksX26_carry_2 13 rfl rfl)
theorem dX26_carry_60 : decode cX26_carry 60 = .ok (.istore 8, 2) := dk_54 8 (dk_at dksX26_carry_2 14 rfl rfl)
theorem dX26_carry_62 : decode cX26_carry 62 = .ok (.aload_n 1, 1) := dk_43 (dk_at dksX26_carry_2 16 rfl rfl)
theorem dX26_carry_63 : decode cX26_carry 63 = .ok (.iload 8, 2) := dk_21 8 (dk_at dksX26_carry_2 17 rfl rfl)
theorem dX26_carry_65 : decode cX26_carry 65 = .ok (.iload_n 3, 1) := dk_29 (dk_at dksX26_carry_2 19 rfl rfl)
theorem dX26_carry_66 : decode cX26_carry 66 = .ok (.aload_n 1, 1) := dk_43 (dk_at dksX26_carry_2 20 rfl rfl)
theorem dX26_carry_67 : decode cX26_carry 67 = .ok (.getfield 19, 3) := dk_180 0 19 (dk_at dksX26_carry_2 21 rfl rfl)
theorem dX26_carry_70 : decode cX26_carry 70 = .ok (.iload 8, 2) := dk_21 8 (dk_at dksX26_carry_3 0 rfl rfl)
theorem dX26_carry_72 : decode cX26_carry 72 = .ok (.iaload, 1) := dk_46 (dk_at dksX26_carry_3 2 rfl rfl)
theorem dX26_carry_73 : decode cX26_carry 73 = .ok (.iload 4, 2) := dk_21 4 (dk_at dksX26_carry_3 3 rfl rfl)
theorem dX26_carry_75 : decode cX26_carry 75 = .ok (.isub, 1) := dk_100 (dk_at dksX26_carry_3 5 rfl rfl)
theorem dX26_carry_76 : decode cX26_carry 76 = .ok (.isub, 1) := dk_100 (dk_at dksX26_carry_3 6 rfl rfl)
theorem dX26_carry_77 : decode cX26_carry 77 = .ok (.i2l, 1) := dk_133 (dk_at dksX26_carry_3 7 rfl rfl)
theorem dX26_carry_78 : decode cX26_carry 78 = .ok (.iload 4, 2) := dk_21 4 (dk_at dksX26_carry_3 8 rfl rfl)
theorem dX26_carry_80 : decode cX26_carry 80 = .ok (.aload_n 1, 1) := dk_43 (dk_at dksX26_carry_3 10 rfl rfl)
theorem dX26_carry_81 : decode cX26_carry 81 = .ok (.getfield 7, 3) := dk_180 0 7 (dk_at dksX26_carry_3 11 rfl rfl)
theorem dX26_carry_84 : decode cX26_carry 84 = .ok (.iload 8, 2) := dk_21 8 (dk_at dksX26_carry_3 14 rfl rfl)
theorem dX26_carry_86 : decode cX26_carry 86 = .ok (.iaload, 1) := dk_46 (dk_at dksX26_carry_3 16 rfl rfl)
theorem dX26_carry_87 : decode cX26_carry 87 = .ok (.iload_n 3, 1) := dk_29 (dk_at dksX26_carry_3 17 rfl rfl)
theorem dX26_carry_88 : decode cX26_carry 88 = .ok (.isub, 1) := dk_100 (dk_at dksX26_carry_3 18 rfl rfl)
theorem dX26_carry_89 : decode cX26_carry 89 = .ok (.iadd, 1) := dk_96 (dk_at dksX26_carry_3 19 rfl rfl)
theorem dX26_carry_90 : decode cX26_carry 90 = .ok (.i2l, 1) := dk_133 (dk_at dksX26_carry_3 20 rfl rfl)
theorem dX26_carry_91 : decode cX26_carry 91 = .ok (.invokevirtual 40, 3) := dk_182 0 40 (dk_at dksX26_carry_3 21 rfl rfl)
theorem dX26_carry_94 : decode cX26_carry 94 = .ok (.iinc 7 1, 3) := dk_132 7 1 (dk_at dksX26_carry_4 0 rfl rfl)
theorem dX26_carry_97 : decode cX26_carry 97 = .ok (.goto (-49), 3) := dk_167 255 207 (dk_at dksX26_carry_4 3 rfl rfl)
theorem dX26_carry_100 : decode cX26_carry 100 = .ok (.return_, 1) := dk_177 (dk_at dksX26_carry_4 6 rfl rfl)
theorem q239 : (Jvm.Cond.fieldLinkNest "GridTable$Deed$2" (7 : Nat) "GridTable$Table" "xs" "[I" "GridTable") ∈ lw_tbl := lw_at lw_m1 128 rfl
theorem q247 : (Jvm.Cond.fieldLinkNest "GridTable$Deed$2" (19 : Nat) "GridTable$Table" "ys" "[I" "GridTable") ∈ lw_tbl := lw_at lw_m1 136 rfl
theorem q258 : (Jvm.Cond.fieldLinkNest "GridTable$Deed$2" (22 : Nat) "GridTable$Table" "shapes" "Ljava/util/ArrayList;" "GridTable") ∈ lw_tbl := lw_at lw_m1 147 rfl
theorem q808 : (Jvm.Cond.selects "GridTable$Deed$2" ({ cls := "java/lang/Object", name := "getClass", desc := "()Ljava/lang/Class;" } : Jvm.MethodName) ({ cls := "java/lang/Object", name := "getClass", desc := "()Ljava/lang/Class;" } : Jvm.MethodName)) ∈ lw_all := lw_g (lw_at lw_m3 217 rfl) rfl
theorem q1037 : (Jvm.Cond.selects "GridTable$Deed$2" ({ cls := "java/lang/Object", name := "hashCode", desc := "()I" } : Jvm.MethodName) ({ cls := "java/lang/Enum", name := "hashCode", desc := "()I" } : Jvm.MethodName)) ∈ lw_all := lw_g (lw_at lw_m4 206 rfl) rfl
theorem q1149 : (Jvm.Cond.selects "GridTable$Deed$2" ({ cls := "java/lang/Object", name := "equals", desc := "(Ljava/lang/Object;)Z" } : Jvm.MethodName) ({ cls := "java/lang/Enum", name := "equals", desc := "(Ljava/lang/Object;)Z" } : Jvm.MethodName)) ∈ lw_all := lw_g (lw_at lw_m5 78 rfl) rfl
theorem q1235 : (Jvm.Cond.selects "GridTable$Deed$2" ({ cls := "java/lang/Enum", name := "compareTo", desc := "(Ljava/lang/Enum;)I" } : Jvm.MethodName) ({ cls := "java/lang/Enum", name := "compareTo", desc := "(Ljava/lang/Enum;)I" } : Jvm.MethodName)) ∈ lw_all := lw_g (lw_at lw_m5 164 rfl) rfl
theorem q1254 : (Jvm.Cond.selects "GridTable$Deed$2" ({ cls := "java/lang/Enum", name := "getDeclaringClass", desc := "()Ljava/lang/Class;" } : Jvm.MethodName) ({ cls := "java/lang/Enum", name := "getDeclaringClass", desc := "()Ljava/lang/Class;" } : Jvm.MethodName)) ∈ lw_all := lw_g (lw_at lw_m5 183 rfl) rfl
theorem q1268 : (Jvm.Cond.castable "GridTable$Deed$2" "java/lang/Comparable") ∈ lw_tbl := lw_at lw_m5 197 rfl
theorem q1269 : (Jvm.Cond.selects "GridTable$Deed$2" ({ cls := "java/lang/Comparable", name := "compareTo", desc := "(Ljava/lang/Object;)I" } : Jvm.MethodName) ({ cls := "java/lang/Enum", name := "compareTo", desc := "(Ljava/lang/Object;)I" } : Jvm.MethodName)) ∈ lw_all := lw_g (lw_at lw_m5 198 rfl) rfl
theorem q1270 : (Jvm.Cond.unhidden "GridTable$Deed$2" "compareTo" "(Ljava/lang/Object;)I") ∈ lw_tbl := lw_at lw_m5 199 rfl
theorem q2006 : (Jvm.Cond.fieldLinkNest "GridTable$Deed$2" (37 : Nat) "GridTable$Table$Shape" "corners" "[I" "GridTable") ∈ lw_tbl := lw_at lw_m8 215 rfl
theorem q2137 : (Jvm.Cond.fieldLinkNest "GridTable$Deed$2" (26 : Nat) "GridTable$Step" "what" "I" "GridTable") ∈ lw_tbl := lw_at lw_m9 106 rfl
theorem q2141 : (Jvm.Cond.fieldLinkNest "GridTable$Deed$2" (13 : Nat) "GridTable$Step" "round" "I" "GridTable") ∈ lw_tbl := lw_at lw_m9 110 rfl
theorem q2280 : (Jvm.Cond.selects "GridTable$Deed$2" ({ cls := "GridTable$Deed", name := "carry", desc := "(LGridTable$Table;LGridTable$Step;)V" } : Jvm.MethodName) ({ cls := "GridTable$Deed$2", name := "carry", desc := "(LGridTable$Table;LGridTable$Step;)V" } : Jvm.MethodName)) ∈ lw_all := lw_g (lw_at lw_m10 9 rfl) rfl
theorem q2281 : (Jvm.Cond.instanceMethod ({ cls := "GridTable$Deed$2", name := "carry", desc := "(LGridTable$Table;LGridTable$Step;)V" } : Jvm.MethodName)) ∈ lw_all := lw_g (lw_at lw_m10 10 rfl) rfl
theorem q2282 : (Jvm.Cond.code ({ cls := "GridTable$Deed$2", name := "carry", desc := "(LGridTable$Table;LGridTable$Step;)V" } : Jvm.MethodName) prog_7_method_2_code (9 : Nat) (Option.none : Option Jvm.ClassFile.FieldType)) ∈ lw_all := lw_g (lw_at lw_m10 11 rfl) rfl
theorem q2283 : (Jvm.Cond.methodLink "GridTable$Deed$2" (29 : Nat) ({ cls := "java/util/ArrayList", name := "get", desc := "(I)Ljava/lang/Object;" } : Jvm.MethodName)) ∈ lw_all := lw_g (lw_at lw_m10 12 rfl) rfl
theorem q2284 : (Jvm.Cond.classLink "GridTable$Deed$2" (35 : Nat) "GridTable$Table$Shape") ∈ lw_all := lw_g (lw_at lw_m10 13 rfl) rfl
theorem q2285 : (Jvm.Cond.methodLink "GridTable$Deed$2" (40 : Nat) ({ cls := "GridTable$Table", name := "put", desc := "(IJJ)V" } : Jvm.MethodName)) ∈ lw_all := lw_g (lw_at lw_m10 14 rfl) rfl
theorem q2489 : (Jvm.Cond.selects "GridTable$Deed$2" ({ cls := "GridTable$Deed", name := "ordinal", desc := "()I" } : Jvm.MethodName) ({ cls := "java/lang/Enum", name := "ordinal", desc := "()I" } : Jvm.MethodName)) ∈ lw_all := lw_g (lw_at lw_m10 218 rfl) rfl
theorem q3307 : (Jvm.Cond.castable "GridTable$Deed$2" "java/lang/Enum") ∈ lw_tbl := lw_at lw_m14 76 rfl
theorem q3366 : (Jvm.Cond.castable "GridTable$Deed$2" "java/lang/Object") ∈ lw_tbl := lw_at lw_m14 135 rfl

/-! GridTable$Deed$3 -/
set_option maxRecDepth 100000
def RX27 : String := "GridTable$Deed$3"
abbrev cX27_carry : ByteArray := prog_8_method_2_code
def yX27_carry : MethodName := ⟨RX27, "carry", "(LGridTable$Table;LGridTable$Step;)V"⟩
def dkwX27_carry_3 : List UInt8 := [46, 133, 182, 0, 40, 132, 6, 1, 167, 255, 213, 177]
abbrev dktX27_carry_3 : List UInt8 := dkwX27_carry_3 ++ []
def dkwX27_carry_2 : List UInt8 := [46, 54, 7, 43, 21, 7, 5, 29, 104, 43, 180, 0, 7, 21, 7, 46, 100, 133, 43, 180, 0, 37, 21, 7]
abbrev dktX27_carry_2 : List UInt8 := dkwX27_carry_2 ++ dktX27_carry_3
def dkwX27_carry_1 : List UInt8 := [180, 0, 34, 58, 4, 25, 4, 190, 54, 5, 3, 54, 6, 21, 6, 21, 5, 162, 0, 42, 25, 4, 21, 6]
abbrev dktX27_carry_1 : List UInt8 := dkwX27_carry_1 ++ dktX27_carry_2
def dkwX27_carry_0 : List UInt8 := [43, 180, 0, 7, 44, 180, 0, 13, 46, 62, 43, 180, 0, 19, 44, 180, 0, 23, 182, 0, 26, 192, 0, 32]
abbrev dktX27_carry_0 : List UInt8 := dkwX27_carry_0 ++ dktX27_carry_1
theorem dksX27_carry_0 : cX27_carry.data.toList.drop 0 = dktX27_carry_0 := by decide +kernel
theorem dksX27_carry_1 : cX27_carry.data.toList.drop 24 = dktX27_carry_1 := dk_seg dksX27_carry_0 24 rfl rfl
theorem dksX27_carry_2 : cX27_carry.data.toList.drop 48 = dktX27_carry_2 := dk_seg dksX27_carry_1 24 rfl rfl
theorem dksX27_carry_3 : cX27_carry.data.toList.drop 72 = dktX27_carry_3 := dk_seg dksX27_carry_2 24 rfl rfl
theorem dX27_carry_0 : decode cX27_carry 0 = .ok (.aload_n 1, 1) := dk_43 (dk_at dksX27_carry_0 0 rfl rfl)
theorem dX27_carry_1 : decode cX27_carry 1 = .ok (.getfield 7, 3) := dk_180 0 7 (dk_at dksX27_carry_0 1 rfl rfl)
theorem dX27_carry_4 : decode cX27_carry 4 = .ok (.aload_n 2, 1) := dk_44 (dk_at dksX27_carry_0 4 rfl rfl)
theorem dX27_carry_5 : decode cX27_carry 5 = .ok (.getfield 13, 3) := dk_180 0 13 (dk_at dksX27_carry_0 5 rfl rfl)
theorem dX27_carry_8 : decode cX27_carry 8 = .ok (.iaload, 1) := dk_46 (dk_at dksX27_carry_0 8 rfl rfl)
theorem dX27_carry_9 : decode cX27_carry 9 = .ok (.istore_n 3, 1) := dk_62 (dk_at dksX27_carry_0 9 rfl rfl)
theorem dX27_carry_10 : decode cX27_carry 10 = .ok (.aload_n 1, 1) := dk_43 (dk_at dksX27_carry_0 10 rfl rfl)
theorem dX27_carry_11 : decode cX27_carry 11 = .ok (.getfield 19, 3) := dk_180 0 19 (dk_at dksX27_carry_0 11 rfl rfl)
theorem dX27_carry_14 : decode cX27_carry 14 = .ok (.aload_n 2, 1) := dk_44 (dk_at dksX27_carry_0 14 rfl rfl)
theorem dX27_carry_15 : decode cX27_carry 15 = .ok (.getfield 23, 3) := dk_180 0 23 (dk_at dksX27_carry_0 15 rfl rfl)
theorem dX27_carry_18 : decode cX27_carry 18 = .ok (.invokevirtual 26, 3) := dk_182 0 26 (dk_at dksX27_carry_0 18 rfl rfl)
theorem dX27_carry_21 : decode cX27_carry 21 = .ok (.checkcast 32, 3) := dk_192 0 32 (dk_at dksX27_carry_0 21 rfl rfl)
theorem dX27_carry_24 : decode cX27_carry 24 = .ok (.getfield 34, 3) := dk_180 0 34 (dk_at dksX27_carry_1 0 rfl rfl)
theorem dX27_carry_27 : decode cX27_carry 27 = .ok (.astore 4, 2) := dk_58 4 (dk_at dksX27_carry_1 3 rfl rfl)
theorem dX27_carry_29 : decode cX27_carry 29 = .ok (.aload 4, 2) := dk_25 4 (dk_at dksX27_carry_1 5 rfl rfl)
theorem dX27_carry_31 : decode cX27_carry 31 = .ok (.arraylength, 1) := dk_190 (dk_at dksX27_carry_1 7 rfl rfl)
theorem dX27_carry_32 : decode cX27_carry 32 = .ok (.istore 5, 2) := dk_54 5 (dk_at dksX27_carry_1 8 rfl rfl)
theorem dX27_carry_34 : decode cX27_carry 34 = .ok (.iconst 0, 1) := dk_3 (dk_at dksX27_carry_1 10 rfl rfl)
theorem dX27_carry_35 : decode cX27_carry 35 = .ok (.istore 6, 2) := dk_54 6 (dk_at dksX27_carry_1 11 rfl rfl)
theorem dX27_carry_37 : decode cX27_carry 37 = .ok (.iload 6, 2) := dk_21 6 (dk_at dksX27_carry_1 13 rfl rfl)
theorem dX27_carry_39 : decode cX27_carry 39 = .ok (.iload 5, 2) := dk_21 5 (dk_at dksX27_carry_1 15 rfl rfl)
theorem dX27_carry_41 : decode cX27_carry 41 = .ok (.if_icmp .ge 42, 3) := dk_162 0 42 (dk_at dksX27_carry_1 17 rfl rfl)
theorem dX27_carry_44 : decode cX27_carry 44 = .ok (.aload 4, 2) := dk_25 4 (dk_at dksX27_carry_1 20 rfl rfl)
theorem dX27_carry_46 : decode cX27_carry 46 = .ok (.iload 6, 2) := dk_21 6 (dk_at dksX27_carry_1 22 rfl rfl)
theorem dX27_carry_48 : decode cX27_carry 48 = .ok (.iaload, 1) := dk_46 (dk_at dksX27_carry_2 0 rfl rfl)
theorem dX27_carry_49 : decode cX27_carry 49 = .ok (.istore 7, 2) := dk_54 7 (dk_at dksX27_carry_2 1 rfl rfl)
theorem dX27_carry_51 : decode cX27_carry 51 = .ok (.aload_n 1, 1) := dk_43 (dk_at dksX27_carry_2 3 rfl rfl)
theorem dX27_carry_52 : decode cX27_carry 52 = .ok (.iload 7, 2) := dk_21 7 (dk_at dksX27_carry_2 4 rfl rfl)
theorem dX27_carry_54 : decode cX27_carry 54 = .ok (.iconst 2, 1) := dk_5 (dk_at dksX27_carry_2 6 rfl rfl)
theorem dX27_carry_55 : decode cX27_carry 55 = .ok (.iload_n 3, 1) := dk_29 (dk_at dksX27_carry_2 7 rfl rfl)
theorem dX27_carry_56 : decode cX27_carry 56 = .ok (.imul, 1) := dk_104 (dk_at dksX27_carry_2 8 rfl rfl)
theorem dX27_carry_57 : decode cX27_carry 57 = .ok (.aload_n 1, 1) := dk_43 (dk_at dksX27_carry_2 9 rfl rfl)
theorem dX27_carry_58 : decode cX27_carry 58 = .ok (.getfield 7, 3) := dk_180 0 7 (dk_at dksX27_carry_2 10 rfl rfl)
theorem dX27_carry_61 : decode cX27_carry 61 = .ok (.iload 7, 2) := dk_21 7 (dk_at dksX27_carry_2 13 rfl rfl)
theorem dX27_carry_63 : decode cX27_carry 63 = .ok (.iaload, 1) := dk_46 (dk_at dksX27_carry_2 15 rfl rfl)
theorem dX27_carry_64 : decode cX27_carry 64 = .ok (.isub, 1) := dk_100 (dk_at dksX27_carry_2 16 rfl rfl)
theorem dX27_carry_65 : decode cX27_carry 65 = .ok (.i2l, 1) := dk_133 (dk_at dksX27_carry_2 17 rfl rfl)
theorem dX27_carry_66 : decode cX27_carry 66 = .ok (.aload_n 1, 1) := dk_43 (dk_at dksX27_carry_2 18 rfl rfl)
theorem dX27_carry_67 : decode cX27_carry 67 = .ok (.getfield 37, 3) := dk_180 0 37 (dk_at dksX27_carry_2 19 rfl rfl)
theorem dX27_carry_70 : decode cX27_carry 70 = .ok (.iload 7, 2) := dk_21 7 (dk_at dksX27_carry_2 22 rfl rfl)
theorem dX27_carry_72 : decode cX27_carry 72 = .ok (.iaload, 1) := dk_46 (dk_at dksX27_carry_3 0 rfl rfl)
theorem dX27_carry_73 : decode cX27_carry 73 = .ok (.i2l, 1) := dk_133 (dk_at dksX27_carry_3 1 rfl rfl)
theorem dX27_carry_74 : decode cX27_carry 74 = .ok (.invokevirtual 40, 3) := dk_182 0 40 (dk_at dksX27_carry_3 2 rfl rfl)
theorem dX27_carry_77 : decode cX27_carry 77 = .ok (.iinc 6 1, 3) := dk_132 6 1 (dk_at dksX27_carry_3 5 rfl rfl)
theorem dX27_carry_80 : decode cX27_carry 80 = .ok (.goto (-43), 3) := dk_167 255 213 (dk_at dksX27_carry_3 8 rfl rfl)
theorem dX27_carry_83 : decode cX27_carry 83 = .ok (.return_, 1) := dk_177 (dk_at dksX27_carry_3 11 rfl rfl)
theorem q240 : (Jvm.Cond.fieldLinkNest "GridTable$Deed$3" (7 : Nat) "GridTable$Table" "xs" "[I" "GridTable") ∈ lw_tbl := lw_at lw_m1 129 rfl
theorem q250 : (Jvm.Cond.fieldLinkNest "GridTable$Deed$3" (37 : Nat) "GridTable$Table" "ys" "[I" "GridTable") ∈ lw_tbl := lw_at lw_m1 139 rfl
theorem q257 : (Jvm.Cond.fieldLinkNest "GridTable$Deed$3" (19 : Nat) "GridTable$Table" "shapes" "Ljava/util/ArrayList;" "GridTable") ∈ lw_tbl := lw_at lw_m1 146 rfl
theorem q809 : (Jvm.Cond.selects "GridTable$Deed$3" ({ cls := "java/lang/Object", name := "getClass", desc := "()Ljava/lang/Class;" } : Jvm.MethodName) ({ cls := "java/lang/Object", name := "getClass", desc := "()Ljava/lang/Class;" } : Jvm.MethodName)) ∈ lw_all := lw_g (lw_at lw_m3 218 rfl) rfl
theorem q1038 : (Jvm.Cond.selects "GridTable$Deed$3" ({ cls := "java/lang/Object", name := "hashCode", desc := "()I" } : Jvm.MethodName) ({ cls := "java/lang/Enum", name := "hashCode", desc := "()I" } : Jvm.MethodName)) ∈ lw_all := lw_g (lw_at lw_m4 207 rfl) rfl
theorem q1150 : (Jvm.Cond.selects "GridTable$Deed$3" ({ cls := "java/lang/Object", name := "equals", desc := "(Ljava/lang/Object;)Z" } : Jvm.MethodName) ({ cls := "java/lang/Enum", name := "equals", desc := "(Ljava/lang/Object;)Z" } : Jvm.MethodName)) ∈ lw_all := lw_g (lw_at lw_m5 79 rfl) rfl
theorem q1236 : (Jvm.Cond.selects "GridTable$Deed$3" ({ cls := "java/lang/Enum", name := "compareTo", desc := "(Ljava/lang/Enum;)I" } : Jvm.MethodName) ({ cls := "java/lang/Enum", name := "compareTo", desc := "(Ljava/lang/Enum;)I" } : Jvm.MethodName)) ∈ lw_all := lw_g (lw_at lw_m5 165 rfl) rfl
theorem q1255 : (Jvm.Cond.selects "GridTable$Deed$3" ({ cls := "java/lang/Enum", name := "getDeclaringClass", desc := "()Ljava/lang/Class;" } : Jvm.MethodName) ({ cls := "java/lang/Enum", name := "getDeclaringClass", desc := "()Ljava/lang/Class;" } : Jvm.MethodName)) ∈ lw_all := lw_g (lw_at lw_m5 184 rfl) rfl
theorem q1271 : (Jvm.Cond.castable "GridTable$Deed$3" "java/lang/Comparable") ∈ lw_tbl := lw_at lw_m5 200 rfl
theorem q1272 : (Jvm.Cond.selects "GridTable$Deed$3" ({ cls := "java/lang/Comparable", name := "compareTo", desc := "(Ljava/lang/Object;)I" } : Jvm.MethodName) ({ cls := "java/lang/Enum", name := "compareTo", desc := "(Ljava/lang/Object;)I" } : Jvm.MethodName)) ∈ lw_all := lw_g (lw_at lw_m5 201 rfl) rfl
theorem q1273 : (Jvm.Cond.unhidden "GridTable$Deed$3" "compareTo" "(Ljava/lang/Object;)I") ∈ lw_tbl := lw_at lw_m5 202 rfl
theorem q2005 : (Jvm.Cond.fieldLinkNest "GridTable$Deed$3" (34 : Nat) "GridTable$Table$Shape" "corners" "[I" "GridTable") ∈ lw_tbl := lw_at lw_m8 214 rfl
theorem q2136 : (Jvm.Cond.fieldLinkNest "GridTable$Deed$3" (23 : Nat) "GridTable$Step" "what" "I" "GridTable") ∈ lw_tbl := lw_at lw_m9 105 rfl
theorem q2142 : (Jvm.Cond.fieldLinkNest "GridTable$Deed$3" (13 : Nat) "GridTable$Step" "round" "I" "GridTable") ∈ lw_tbl := lw_at lw_m9 111 rfl
theorem q2286 : (Jvm.Cond.selects "GridTable$Deed$3" ({ cls := "GridTable$Deed", name := "carry", desc := "(LGridTable$Table;LGridTable$Step;)V" } : Jvm.MethodName) ({ cls := "GridTable$Deed$3", name := "carry", desc := "(LGridTable$Table;LGridTable$Step;)V" } : Jvm.MethodName)) ∈ lw_all := lw_g (lw_at lw_m10 15 rfl) rfl
theorem q2287 : (Jvm.Cond.instanceMethod ({ cls := "GridTable$Deed$3", name := "carry", desc := "(LGridTable$Table;LGridTable$Step;)V" } : Jvm.MethodName)) ∈ lw_all := lw_g (lw_at lw_m10 16 rfl) rfl
theorem q2288 : (Jvm.Cond.code ({ cls := "GridTable$Deed$3", name := "carry", desc := "(LGridTable$Table;LGridTable$Step;)V" } : Jvm.MethodName) prog_8_method_2_code (8 : Nat) (Option.none : Option Jvm.ClassFile.FieldType)) ∈ lw_all := lw_g (lw_at lw_m10 17 rfl) rfl
theorem q2289 : (Jvm.Cond.methodLink "GridTable$Deed$3" (26 : Nat) ({ cls := "java/util/ArrayList", name := "get", desc := "(I)Ljava/lang/Object;" } : Jvm.MethodName)) ∈ lw_all := lw_g (lw_at lw_m10 18 rfl) rfl
theorem q2290 : (Jvm.Cond.classLink "GridTable$Deed$3" (32 : Nat) "GridTable$Table$Shape") ∈ lw_all := lw_g (lw_at lw_m10 19 rfl) rfl
theorem q2291 : (Jvm.Cond.methodLink "GridTable$Deed$3" (40 : Nat) ({ cls := "GridTable$Table", name := "put", desc := "(IJJ)V" } : Jvm.MethodName)) ∈ lw_all := lw_g (lw_at lw_m10 20 rfl) rfl
theorem q2490 : (Jvm.Cond.selects "GridTable$Deed$3" ({ cls := "GridTable$Deed", name := "ordinal", desc := "()I" } : Jvm.MethodName) ({ cls := "java/lang/Enum", name := "ordinal", desc := "()I" } : Jvm.MethodName)) ∈ lw_all := lw_g (lw_at lw_m10 219 rfl) rfl
theorem q3308 : (Jvm.Cond.castable "GridTable$Deed$3" "java/lang/Enum") ∈ lw_tbl := lw_at lw_m14 77 rfl
theorem q3367 : (Jvm.Cond.castable "GridTable$Deed$3" "java/lang/Object") ∈ lw_tbl := lw_at lw_m14 136 rfl

/-! GridTable$Deed$1 -/
set_option maxRecDepth 100000
def RX28 : String := "GridTable$Deed$1"
abbrev cX28_carry : ByteArray := prog_6_method_2_code
def yX28_carry : MethodName := ⟨RX28, "carry", "(LGridTable$Table;LGridTable$Step;)V"⟩
def dkwX28_carry_2 : List UInt8 := [133, 33, 97, 43, 180, 0, 38, 44, 180, 0, 28, 46, 133, 22, 5, 97, 182, 0, 41, 177]
abbrev dktX28_carry_2 : List UInt8 := dkwX28_carry_2 ++ []
def dkwX28_carry_1 : List UInt8 := [192, 0, 19, 43, 182, 0, 21, 133, 55, 5, 43, 44, 180, 0, 28, 43, 180, 0, 32, 44, 180, 0, 28, 46]
abbrev dktX28_carry_1 : List UInt8 := dkwX28_carry_1 ++ dktX28_carry_2
def dkwX28_carry_0 : List UInt8 := [44, 180, 0, 7, 182, 0, 13, 192, 0, 19, 43, 182, 0, 21, 133, 66, 44, 180, 0, 25, 182, 0, 13]
abbrev dktX28_carry_0 : List UInt8 := dkwX28_carry_0 ++ dktX28_carry_1
theorem dksX28_carry_0 : cX28_carry.data.toList.drop 0 = dktX28_carry_0 := by decide +kernel
theorem dksX28_carry_1 : cX28_carry.data.toList.drop 23 = dktX28_carry_1 := dk_seg dksX28_carry_0 23 rfl rfl
theorem dksX28_carry_2 : cX28_carry.data.toList.drop 47 = dktX28_carry_2 := dk_seg dksX28_carry_1 24 rfl rfl
theorem dX28_carry_0 : decode cX28_carry 0 = .ok (.aload_n 2, 1) := dk_44 (dk_at dksX28_carry_0 0 rfl rfl)
theorem dX28_carry_1 : decode cX28_carry 1 = .ok (.getfield 7, 3) := dk_180 0 7 (dk_at dksX28_carry_0 1 rfl rfl)
theorem dX28_carry_4 : decode cX28_carry 4 = .ok (.invokevirtual 13, 3) := dk_182 0 13 (dk_at dksX28_carry_0 4 rfl rfl)
theorem dX28_carry_7 : decode cX28_carry 7 = .ok (.checkcast 19, 3) := dk_192 0 19 (dk_at dksX28_carry_0 7 rfl rfl)
theorem dX28_carry_10 : decode cX28_carry 10 = .ok (.aload_n 1, 1) := dk_43 (dk_at dksX28_carry_0 10 rfl rfl)
theorem dX28_carry_11 : decode cX28_carry 11 = .ok (.invokevirtual 21, 3) := dk_182 0 21 (dk_at dksX28_carry_0 11 rfl rfl)
theorem dX28_carry_14 : decode cX28_carry 14 = .ok (.i2l, 1) := dk_133 (dk_at dksX28_carry_0 14 rfl rfl)
theorem dX28_carry_15 : decode cX28_carry 15 = .ok (.lstore_n 3, 1) := dk_66 (dk_at dksX28_carry_0 15 rfl rfl)
theorem dX28_carry_16 : decode cX28_carry 16 = .ok (.aload_n 2, 1) := dk_44 (dk_at dksX28_carry_0 16 rfl rfl)
theorem dX28_carry_17 : decode cX28_carry 17 = .ok (.getfield 25, 3) := dk_180 0 25 (dk_at dksX28_carry_0 17 rfl rfl)
theorem dX28_carry_20 : decode cX28_carry 20 = .ok (.invokevirtual 13, 3) := dk_182 0 13 (dk_at dksX28_carry_0 20 rfl rfl)
theorem dX28_carry_23 : decode cX28_carry 23 = .ok (.checkcast 19, 3) := dk_192 0 19 (dk_at dksX28_carry_1 0 rfl rfl)
theorem dX28_carry_26 : decode cX28_carry 26 = .ok (.aload_n 1, 1) := dk_43 (dk_at dksX28_carry_1 3 rfl rfl)
theorem dX28_carry_27 : decode cX28_carry 27 = .ok (.invokevirtual 21, 3) := dk_182 0 21 (dk_at dksX28_carry_1 4 rfl rfl)
theorem dX28_carry_30 : decode cX28_carry 30 = .ok (.i2l, 1) := dk_133 (dk_at dksX28_carry_1 7 rfl rfl)
theorem dX28_carry_31 : decode cX28_carry 31 = .ok (.lstore 5, 2) := dk_55 5 (dk_at dksX28_carry_1 8 rfl rfl)
theorem dX28_carry_33 : decode cX28_carry 33 = .ok (.aload_n 1, 1) := dk_43 (dk_at dksX28_carry_1 10 rfl rfl)
theorem dX28_carry_34 : decode cX28_carry 34 = .ok (.aload_n 2, 1) := dk_44 (dk_at dksX28_carry_1 11 rfl rfl)
theorem dX28_carry_35 : decode cX28_carry 35 = .ok (.getfield 28, 3) := dk_180 0 28 (dk_at dksX28_carry_1 12 rfl rfl)
theorem dX28_carry_38 : decode cX28_carry 38 = .ok (.aload_n 1, 1) := dk_43 (dk_at dksX28_carry_1 15 rfl rfl)
theorem dX28_carry_39 : decode cX28_carry 39 = .ok (.getfield 32, 3) := dk_180 0 32 (dk_at dksX28_carry_1 16 rfl rfl)
theorem dX28_carry_42 : decode cX28_carry 42 = .ok (.aload_n 2, 1) := dk_44 (dk_at dksX28_carry_1 19 rfl rfl)
theorem dX28_carry_43 : decode cX28_carry 43 = .ok (.getfield 28, 3) := dk_180 0 28 (dk_at dksX28_carry_1 20 rfl rfl)
theorem dX28_carry_46 : decode cX28_carry 46 = .ok (.iaload, 1) := dk_46 (dk_at dksX28_carry_1 23 rfl rfl)
theorem dX28_carry_47 : decode cX28_carry 47 = .ok (.i2l, 1) := dk_133 (dk_at dksX28_carry_2 0 rfl rfl)
theorem dX28_carry_48 : decode cX28_carry 48 = .ok (.lload_n 3, 1) := dk_33 (dk_at dksX28_carry_2 1 rfl rfl)
theorem dX28_carry_49 : decode cX28_carry 49 = .ok (.ladd, 1) := dk_97 (dk_at dksX28_carry_2 2 rfl rfl)
theorem dX28_carry_50 : decode cX28_carry 50 = .ok (.aload_n 1, 1) := dk_43 (dk_at dksX28_carry_2 3 rfl rfl)
theorem dX28_carry_51 : decode cX28_carry 51 = .ok (.getfield 38, 3) := dk_180 0 38 (dk_at dksX28_carry_2 4 rfl rfl)
theorem dX28_carry_54 : decode cX28_carry 54 = .ok (.aload_n 2, 1) := dk_44 (dk_at dksX28_carry_2 7 rfl rfl)
theorem dX28_carry_55 : decode cX28_carry 55 = .ok (.getfield 28, 3) := dk_180 0 28 (dk_at dksX28_carry_2 8 rfl rfl)
theorem dX28_carry_58 : decode cX28_carry 58 = .ok (.iaload, 1) := dk_46 (dk_at dksX28_carry_2 11 rfl rfl)
theorem dX28_carry_59 : decode cX28_carry 59 = .ok (.i2l, 1) := dk_133 (dk_at dksX28_carry_2 12 rfl rfl)
theorem dX28_carry_60 : decode cX28_carry 60 = .ok (.lload 5, 2) := dk_22 5 (dk_at dksX28_carry_2 13 rfl rfl)
theorem dX28_carry_62 : decode cX28_carry 62 = .ok (.ladd, 1) := dk_97 (dk_at dksX28_carry_2 15 rfl rfl)
theorem dX28_carry_63 : decode cX28_carry 63 = .ok (.invokevirtual 41, 3) := dk_182 0 41 (dk_at dksX28_carry_2 16 rfl rfl)
theorem dX28_carry_66 : decode cX28_carry 66 = .ok (.return_, 1) := dk_177 (dk_at dksX28_carry_2 19 rfl rfl)
theorem q242 : (Jvm.Cond.fieldLinkNest "GridTable$Deed$1" (32 : Nat) "GridTable$Table" "xs" "[I" "GridTable") ∈ lw_tbl := lw_at lw_m1 131 rfl
theorem q249 : (Jvm.Cond.fieldLinkNest "GridTable$Deed$1" (38 : Nat) "GridTable$Table" "ys" "[I" "GridTable") ∈ lw_tbl := lw_at lw_m1 138 rfl
theorem q807 : (Jvm.Cond.selects "GridTable$Deed$1" ({ cls := "java/lang/Object", name := "getClass", desc := "()Ljava/lang/Class;" } : Jvm.MethodName) ({ cls := "java/lang/Object", name := "getClass", desc := "()Ljava/lang/Class;" } : Jvm.MethodName)) ∈ lw_all := lw_g (lw_at lw_m3 216 rfl) rfl
theorem q1031 : (Jvm.Cond.selects "GridTable$Deed$1" ({ cls := "java/lang/Object", name := "hashCode", desc := "()I" } : Jvm.MethodName) ({ cls := "java/lang/Enum", name := "hashCode", desc := "()I" } : Jvm.MethodName)) ∈ lw_all := lw_g (lw_at lw_m4 200 rfl) rfl
theorem q1146 : (Jvm.Cond.selects "GridTable$Deed$1" ({ cls := "java/lang/Object", name := "equals", desc := "(Ljava/lang/Object;)Z" } : Jvm.MethodName) ({ cls := "java/lang/Enum", name := "equals", desc := "(Ljava/lang/Object;)Z" } : Jvm.MethodName)) ∈ lw_all := lw_g (lw_at lw_m5 75 rfl) rfl
theorem q1224 : (Jvm.Cond.castable "GridTable$Deed$1" "java/lang/Comparable") ∈ lw_tbl := lw_at lw_m5 153 rfl
theorem q1225 : (Jvm.Cond.selects "GridTable$Deed$1" ({ cls := "java/lang/Comparable", name := "compareTo", desc := "(Ljava/lang/Object;)I" } : Jvm.MethodName) ({ cls := "java/lang/Enum", name := "compareTo", desc := "(Ljava/lang/Object;)I" } : Jvm.MethodName)) ∈ lw_all := lw_g (lw_at lw_m5 154 rfl) rfl
theorem q1226 : (Jvm.Cond.unhidden "GridTable$Deed$1" "compareTo" "(Ljava/lang/Object;)I") ∈ lw_tbl := lw_at lw_m5 155 rfl
theorem q1234 : (Jvm.Cond.selects "GridTable$Deed$1" ({ cls := "java/lang/Enum", name := "compareTo", desc := "(Ljava/lang/Enum;)I" } : Jvm.MethodName) ({ cls := "java/lang/Enum", name := "compareTo", desc := "(Ljava/lang/Enum;)I" } : Jvm.MethodName)) ∈ lw_all := lw_g (lw_at lw_m5 163 rfl) rfl
theorem q1253 : (Jvm.Cond.selects "GridTable$Deed$1" ({ cls := "java/lang/Enum", name := "getDeclaringClass", desc := "()Ljava/lang/Class;" } : Jvm.MethodName) ({ cls := "java/lang/Enum", name := "getDeclaringClass", desc := "()Ljava/lang/Class;" } : Jvm.MethodName)) ∈ lw_all := lw_g (lw_at lw_m5 182 rfl) rfl
theorem q2138 : (Jvm.Cond.fieldLinkNest "GridTable$Deed$1" (28 : Nat) "GridTable$Step" "what" "I" "GridTable") ∈ lw_tbl := lw_at lw_m9 107 rfl
theorem q2145 : (Jvm.Cond.fieldLinkNest "GridTable$Deed$1" (7 : Nat) "GridTable$Step" "dx" "Ljava/util/Optional;" "GridTable") ∈ lw_tbl := lw_at lw_m9 114 rfl
theorem q2147 : (Jvm.Cond.fieldLinkNest "GridTable$Deed$1" (25 : Nat) "GridTable$Step" "dy" "Ljava/util/Optional;" "GridTable") ∈ lw_tbl := lw_at lw_m9 116 rfl
theorem q2270 : (Jvm.Cond.selects "GridTable$Deed$1" ({ cls := "GridTable$Deed", name := "carry", desc := "(LGridTable$Table;LGridTable$Step;)V" } : Jvm.MethodName) ({ cls := "GridTable$Deed$1", name := "carry", desc := "(LGridTable$Table;LGridTable$Step;)V" } : Jvm.MethodName)) ∈ lw_all := lw_g (lw_at lw_m9 239 rfl) rfl
theorem q2271 : (Jvm.Cond.instanceMethod ({ cls := "GridTable$Deed$1", name := "carry", desc := "(LGridTable$Table;LGridTable$Step;)V" } : Jvm.MethodName)) ∈ lw_all := lw_g (lw_at lw_m10 0 rfl) rfl
theorem q2272 : (Jvm.Cond.code ({ cls := "GridTable$Deed$1", name := "carry", desc := "(LGridTable$Table;LGridTable$Step;)V" } : Jvm.MethodName) prog_6_method_2_code (7 : Nat) (Option.none : Option Jvm.ClassFile.FieldType)) ∈ lw_all := lw_g (lw_at lw_m10 1 rfl) rfl
theorem q2273 : (Jvm.Cond.methodLink "GridTable$Deed$1" (13 : Nat) ({ cls := "java/util/Optional", name := "get", desc := "()Ljava/lang/Object;" } : Jvm.MethodName)) ∈ lw_all := lw_g (lw_at lw_m10 2 rfl) rfl
theorem q2277 : (Jvm.Cond.classLink "GridTable$Deed$1" (19 : Nat) "GridTable$Sum") ∈ lw_all := lw_g (lw_at lw_m10 6 rfl) rfl
theorem q2278 : (Jvm.Cond.methodLink "GridTable$Deed$1" (21 : Nat) ({ cls := "GridTable$Sum", name := "of", desc := "(LGridTable$Table;)I" } : Jvm.MethodName)) ∈ lw_all := lw_g (lw_at lw_m10 7 rfl) rfl
theorem q2279 : (Jvm.Cond.methodLink "GridTable$Deed$1" (41 : Nat) ({ cls := "GridTable$Table", name := "put", desc := "(IJJ)V" } : Jvm.MethodName)) ∈ lw_all := lw_g (lw_at lw_m10 8 rfl) rfl
theorem q2488 : (Jvm.Cond.selects "GridTable$Deed$1" ({ cls := "GridTable$Deed", name := "ordinal", desc := "()I" } : Jvm.MethodName) ({ cls := "java/lang/Enum", name := "ordinal", desc := "()I" } : Jvm.MethodName)) ∈ lw_all := lw_g (lw_at lw_m10 217 rfl) rfl
theorem q3306 : (Jvm.Cond.castable "GridTable$Deed$1" "java/lang/Enum") ∈ lw_tbl := lw_at lw_m14 75 rfl
theorem q3365 : (Jvm.Cond.castable "GridTable$Deed$1" "java/lang/Object") ∈ lw_tbl := lw_at lw_m14 134 rfl

/-! GridTable$What$2 -/
set_option maxRecDepth 100000
def RX29 : String := "GridTable$What$2"
abbrev cX29_of : ByteArray := prog_37_method_2_code
def yX29_of : MethodName := ⟨RX29, "of", "(LGridTable$Table;I)I"⟩
def dkwX29_of_0 : List UInt8 := [43, 180, 0, 7, 28, 46, 172]
abbrev dktX29_of_0 : List UInt8 := dkwX29_of_0 ++ []
theorem dksX29_of_0 : cX29_of.data.toList.drop 0 = dktX29_of_0 := by decide +kernel
theorem dX29_of_0 : decode cX29_of 0 = .ok (.aload_n 1, 1) := dk_43 (dk_at dksX29_of_0 0 rfl rfl)
theorem dX29_of_1 : decode cX29_of 1 = .ok (.getfield 7, 3) := dk_180 0 7 (dk_at dksX29_of_0 1 rfl rfl)
theorem dX29_of_4 : decode cX29_of 4 = .ok (.iload_n 2, 1) := dk_28 (dk_at dksX29_of_0 4 rfl rfl)
theorem dX29_of_5 : decode cX29_of 5 = .ok (.iaload, 1) := dk_46 (dk_at dksX29_of_0 5 rfl rfl)
theorem dX29_of_6 : decode cX29_of 6 = .ok (.ireturn, 1) := dk_172 (dk_at dksX29_of_0 6 rfl rfl)
theorem q246 : (Jvm.Cond.fieldLinkNest "GridTable$What$2" (7 : Nat) "GridTable$Table" "ys" "[I" "GridTable") ∈ lw_tbl := lw_at lw_m1 135 rfl
theorem q834 : (Jvm.Cond.selects "GridTable$What$2" ({ cls := "java/lang/Object", name := "getClass", desc := "()Ljava/lang/Class;" } : Jvm.MethodName) ({ cls := "java/lang/Object", name := "getClass", desc := "()Ljava/lang/Class;" } : Jvm.MethodName)) ∈ lw_all := lw_g (lw_at lw_m4 3 rfl) rfl
theorem q1063 : (Jvm.Cond.selects "GridTable$What$2" ({ cls := "java/lang/Object", name := "hashCode", desc := "()I" } : Jvm.MethodName) ({ cls := "java/lang/Enum", name := "hashCode", desc := "()I" } : Jvm.MethodName)) ∈ lw_all := lw_g (lw_at lw_m4 232 rfl) rfl
theorem q1175 : (Jvm.Cond.selects "GridTable$What$2" ({ cls := "java/lang/Object", name := "equals", desc := "(Ljava/lang/Object;)Z" } : Jvm.MethodName) ({ cls := "java/lang/Enum", name := "equals", desc := "(Ljava/lang/Object;)Z" } : Jvm.MethodName)) ∈ lw_all := lw_g (lw_at lw_m5 104 rfl) rfl
theorem q1246 : (Jvm.Cond.selects "GridTable$What$2" ({ cls := "java/lang/Enum", name := "compareTo", desc := "(Ljava/lang/Enum;)I" } : Jvm.MethodName) ({ cls := "java/lang/Enum", name := "compareTo", desc := "(Ljava/lang/Enum;)I" } : Jvm.MethodName)) ∈ lw_all := lw_g (lw_at lw_m5 175 rfl) rfl
theorem q1265 : (Jvm.Cond.selects "GridTable$What$2" ({ cls := "java/lang/Enum", name := "getDeclaringClass", desc := "()Ljava/lang/Class;" } : Jvm.MethodName) ({ cls := "java/lang/Enum", name := "getDeclaringClass", desc := "()Ljava/lang/Class;" } : Jvm.MethodName)) ∈ lw_all := lw_g (lw_at lw_m5 194 rfl) rfl
theorem q1301 : (Jvm.Cond.castable "GridTable$What$2" "java/lang/Comparable") ∈ lw_tbl := lw_at lw_m5 230 rfl
theorem q1302 : (Jvm.Cond.selects "GridTable$What$2" ({ cls := "java/lang/Comparable", name := "compareTo", desc := "(Ljava/lang/Object;)I" } : Jvm.MethodName) ({ cls := "java/lang/Enum", name := "compareTo", desc := "(Ljava/lang/Object;)I" } : Jvm.MethodName)) ∈ lw_all := lw_g (lw_at lw_m5 231 rfl) rfl
theorem q1303 : (Jvm.Cond.unhidden "GridTable$What$2" "compareTo" "(Ljava/lang/Object;)I") ∈ lw_tbl := lw_at lw_m5 232 rfl
theorem q1701 : (Jvm.Cond.selects "GridTable$What$2" ({ cls := "GridTable$What", name := "of", desc := "(LGridTable$Table;I)I" } : Jvm.MethodName) ({ cls := "GridTable$What$2", name := "of", desc := "(LGridTable$Table;I)I" } : Jvm.MethodName)) ∈ lw_all := lw_g (lw_at lw_m7 150 rfl) rfl
theorem q1702 : (Jvm.Cond.instanceMethod ({ cls := "GridTable$What$2", name := "of", desc := "(LGridTable$Table;I)I" } : Jvm.MethodName)) ∈ lw_all := lw_g (lw_at lw_m7 151 rfl) rfl
theorem q1703 : (Jvm.Cond.code ({ cls := "GridTable$What$2", name := "of", desc := "(LGridTable$Table;I)I" } : Jvm.MethodName) prog_37_method_2_code (3 : Nat) (Option.some Jvm.ClassFile.FieldType.int)) ∈ lw_all := lw_g (lw_at lw_m7 152 rfl) rfl
theorem q3318 : (Jvm.Cond.castable "GridTable$What$2" "java/lang/Enum") ∈ lw_tbl := lw_at lw_m14 87 rfl
theorem q3351 : (Jvm.Cond.castable "GridTable$What$2" "java/lang/Object") ∈ lw_tbl := lw_at lw_m14 120 rfl

/-! GridTable$What$3 -/
set_option maxRecDepth 100000
def RX30 : String := "GridTable$What$3"
abbrev cX30_of : ByteArray := prog_38_method_2_code
def yX30_of : MethodName := ⟨RX30, "of", "(LGridTable$Table;I)I"⟩
def dkwX30_of_0 : List UInt8 := [43, 180, 0, 7, 28, 182, 0, 13, 192, 0, 19, 182, 0, 21, 184, 0, 25, 172]
abbrev dktX30_of_0 : List UInt8 := dkwX30_of_0 ++ []
theorem dksX30_of_0 : cX30_of.data.toList.drop 0 = dktX30_of_0 := by decide +kernel
theorem dX30_of_0 : decode cX30_of 0 = .ok (.aload_n 1, 1) := dk_43 (dk_at dksX30_of_0 0 rfl rfl)
theorem dX30_of_1 : decode cX30_of 1 = .ok (.getfield 7, 3) := dk_180 0 7 (dk_at dksX30_of_0 1 rfl rfl)
theorem dX30_of_4 : decode cX30_of 4 = .ok (.iload_n 2, 1) := dk_28 (dk_at dksX30_of_0 4 rfl rfl)
theorem dX30_of_5 : decode cX30_of 5 = .ok (.invokevirtual 13, 3) := dk_182 0 13 (dk_at dksX30_of_0 5 rfl rfl)
theorem dX30_of_8 : decode cX30_of 8 = .ok (.checkcast 19, 3) := dk_192 0 19 (dk_at dksX30_of_0 8 rfl rfl)
theorem dX30_of_11 : decode cX30_of 11 = .ok (.invokevirtual 21, 3) := dk_182 0 21 (dk_at dksX30_of_0 11 rfl rfl)
theorem dX30_of_14 : decode cX30_of 14 = .ok (.invokestatic 25, 3) := dk_184 0 25 (dk_at dksX30_of_0 14 rfl rfl)
theorem dX30_of_17 : decode cX30_of 17 = .ok (.ireturn, 1) := dk_172 (dk_at dksX30_of_0 17 rfl rfl)
theorem q254 : (Jvm.Cond.fieldLinkNest "GridTable$What$3" (7 : Nat) "GridTable$Table" "shapes" "Ljava/util/ArrayList;" "GridTable") ∈ lw_tbl := lw_at lw_m1 143 rfl
theorem q835 : (Jvm.Cond.selects "GridTable$What$3" ({ cls := "java/lang/Object", name := "getClass", desc := "()Ljava/lang/Class;" } : Jvm.MethodName) ({ cls := "java/lang/Object", name := "getClass", desc := "()Ljava/lang/Class;" } : Jvm.MethodName)) ∈ lw_all := lw_g (lw_at lw_m4 4 rfl) rfl
theorem q1064 : (Jvm.Cond.selects "GridTable$What$3" ({ cls := "java/lang/Object", name := "hashCode", desc := "()I" } : Jvm.MethodName) ({ cls := "java/lang/Enum", name := "hashCode", desc := "()I" } : Jvm.MethodName)) ∈ lw_all := lw_g (lw_at lw_m4 233 rfl) rfl
theorem q1176 : (Jvm.Cond.selects "GridTable$What$3" ({ cls := "java/lang/Object", name := "equals", desc := "(Ljava/lang/Object;)Z" } : Jvm.MethodName) ({ cls := "java/lang/Enum", name := "equals", desc := "(Ljava/lang/Object;)Z" } : Jvm.MethodName)) ∈ lw_all := lw_g (lw_at lw_m5 105 rfl) rfl
theorem q1247 : (Jvm.Cond.selects "GridTable$What$3" ({ cls := "java/lang/Enum", name := "compareTo", desc := "(Ljava/lang/Enum;)I" } : Jvm.MethodName) ({ cls := "java/lang/Enum", name := "compareTo", desc := "(Ljava/lang/Enum;)I" } : Jvm.MethodName)) ∈ lw_all := lw_g (lw_at lw_m5 176 rfl) rfl
theorem q1266 : (Jvm.Cond.selects "GridTable$What$3" ({ cls := "java/lang/Enum", name := "getDeclaringClass", desc := "()Ljava/lang/Class;" } : Jvm.MethodName) ({ cls := "java/lang/Enum", name := "getDeclaringClass", desc := "()Ljava/lang/Class;" } : Jvm.MethodName)) ∈ lw_all := lw_g (lw_at lw_m5 195 rfl) rfl
theorem q1304 : (Jvm.Cond.castable "GridTable$What$3" "java/lang/Comparable") ∈ lw_tbl := lw_at lw_m5 233 rfl
theorem q1305 : (Jvm.Cond.selects "GridTable$What$3" ({ cls := "java/lang/Comparable", name := "compareTo", desc := "(Ljava/lang/Object;)I" } : Jvm.MethodName) ({ cls := "java/lang/Enum", name := "compareTo", desc := "(Ljava/lang/Object;)I" } : Jvm.MethodName)) ∈ lw_all := lw_g (lw_at lw_m5 234 rfl) rfl
theorem q1306 : (Jvm.Cond.unhidden "GridTable$What$3" "compareTo" "(Ljava/lang/Object;)I") ∈ lw_tbl := lw_at lw_m5 235 rfl
theorem q1704 : (Jvm.Cond.selects "GridTable$What$3" ({ cls := "GridTable$What", name := "of", desc := "(LGridTable$Table;I)I" } : Jvm.MethodName) ({ cls := "GridTable$What$3", name := "of", desc := "(LGridTable$Table;I)I" } : Jvm.MethodName)) ∈ lw_all := lw_g (lw_at lw_m7 153 rfl) rfl
theorem q1705 : (Jvm.Cond.instanceMethod ({ cls := "GridTable$What$3", name := "of", desc := "(LGridTable$Table;I)I" } : Jvm.MethodName)) ∈ lw_all := lw_g (lw_at lw_m7 154 rfl) rfl
theorem q1706 : (Jvm.Cond.code ({ cls := "GridTable$What$3", name := "of", desc := "(LGridTable$Table;I)I" } : Jvm.MethodName) prog_38_method_2_code (3 : Nat) (Option.some Jvm.ClassFile.FieldType.int)) ∈ lw_all := lw_g (lw_at lw_m7 155 rfl) rfl
theorem q1707 : (Jvm.Cond.methodLink "GridTable$What$3" (13 : Nat) ({ cls := "java/util/ArrayList", name := "get", desc := "(I)Ljava/lang/Object;" } : Jvm.MethodName)) ∈ lw_all := lw_g (lw_at lw_m7 156 rfl) rfl
theorem q1708 : (Jvm.Cond.classLink "GridTable$What$3" (19 : Nat) "GridTable$Table$Shape") ∈ lw_all := lw_g (lw_at lw_m7 157 rfl) rfl
theorem q1709 : (Jvm.Cond.methodLink "GridTable$What$3" (21 : Nat) ({ cls := "GridTable$Table$Shape", name := "area", desc := "()I" } : Jvm.MethodName)) ∈ lw_all := lw_g (lw_at lw_m7 158 rfl) rfl
theorem q1725 : (Jvm.Cond.methodLink "GridTable$What$3" (25 : Nat) ({ cls := "java/lang/Math", name := "abs", desc := "(I)I" } : Jvm.MethodName)) ∈ lw_all := lw_g (lw_at lw_m7 174 rfl) rfl
theorem q3319 : (Jvm.Cond.castable "GridTable$What$3" "java/lang/Enum") ∈ lw_tbl := lw_at lw_m14 88 rfl
theorem q3352 : (Jvm.Cond.castable "GridTable$What$3" "java/lang/Object") ∈ lw_tbl := lw_at lw_m14 121 rfl

/-! GridTable$Sign$1 -/
set_option maxRecDepth 100000
def RX31 : String := "GridTable$Sign$1"
abbrev cX31_join : ByteArray := prog_19_method_2_code
def yX31_join : MethodName := ⟨RX31, "join", "(II)I"⟩
def dkwX31_join_0 : List UInt8 := [27, 28, 96, 172]
abbrev dktX31_join_0 : List UInt8 := dkwX31_join_0 ++ []
theorem dksX31_join_0 : cX31_join.data.toList.drop 0 = dktX31_join_0 := by decide +kernel
theorem dX31_join_0 : decode cX31_join 0 = .ok (.iload_n 1, 1) := dk_27 (dk_at dksX31_join_0 0 rfl rfl)
theorem dX31_join_1 : decode cX31_join 1 = .ok (.iload_n 2, 1) := dk_28 (dk_at dksX31_join_0 1 rfl rfl)
theorem dX31_join_2 : decode cX31_join 2 = .ok (.iadd, 1) := dk_96 (dk_at dksX31_join_0 2 rfl rfl)
theorem dX31_join_3 : decode cX31_join 3 = .ok (.ireturn, 1) := dk_172 (dk_at dksX31_join_0 3 rfl rfl)
theorem q819 : (Jvm.Cond.selects "GridTable$Sign$1" ({ cls := "java/lang/Object", name := "getClass", desc := "()Ljava/lang/Class;" } : Jvm.MethodName) ({ cls := "java/lang/Object", name := "getClass", desc := "()Ljava/lang/Class;" } : Jvm.MethodName)) ∈ lw_all := lw_g (lw_at lw_m3 228 rfl) rfl
theorem q1048 : (Jvm.Cond.selects "GridTable$Sign$1" ({ cls := "java/lang/Object", name := "hashCode", desc := "()I" } : Jvm.MethodName) ({ cls := "java/lang/Enum", name := "hashCode", desc := "()I" } : Jvm.MethodName)) ∈ lw_all := lw_g (lw_at lw_m4 217 rfl) rfl
theorem q1160 : (Jvm.Cond.selects "GridTable$Sign$1" ({ cls := "java/lang/Object", name := "equals", desc := "(Ljava/lang/Object;)Z" } : Jvm.MethodName) ({ cls := "java/lang/Enum", name := "equals", desc := "(Ljava/lang/Object;)Z" } : Jvm.MethodName)) ∈ lw_all := lw_g (lw_at lw_m5 89 rfl) rfl
theorem q1238 : (Jvm.Cond.selects "GridTable$Sign$1" ({ cls := "java/lang/Enum", name := "compareTo", desc := "(Ljava/lang/Enum;)I" } : Jvm.MethodName) ({ cls := "java/lang/Enum", name := "compareTo", desc := "(Ljava/lang/Enum;)I" } : Jvm.MethodName)) ∈ lw_all := lw_g (lw_at lw_m5 167 rfl) rfl
theorem q1257 : (Jvm.Cond.selects "GridTable$Sign$1" ({ cls := "java/lang/Enum", name := "getDeclaringClass", desc := "()Ljava/lang/Class;" } : Jvm.MethodName) ({ cls := "java/lang/Enum", name := "getDeclaringClass", desc := "()Ljava/lang/Class;" } : Jvm.MethodName)) ∈ lw_all := lw_g (lw_at lw_m5 186 rfl) rfl
theorem q1277 : (Jvm.Cond.castable "GridTable$Sign$1" "java/lang/Comparable") ∈ lw_tbl := lw_at lw_m5 206 rfl
theorem q1278 : (Jvm.Cond.selects "GridTable$Sign$1" ({ cls := "java/lang/Comparable", name := "compareTo", desc := "(Ljava/lang/Object;)I" } : Jvm.MethodName) ({ cls := "java/lang/Enum", name := "compareTo", desc := "(Ljava/lang/Object;)I" } : Jvm.MethodName)) ∈ lw_all := lw_g (lw_at lw_m5 207 rfl) rfl
theorem q1279 : (Jvm.Cond.unhidden "GridTable$Sign$1" "compareTo" "(Ljava/lang/Object;)I") ∈ lw_tbl := lw_at lw_m5 208 rfl
theorem q1764 : (Jvm.Cond.selects "GridTable$Sign$1" ({ cls := "GridTable$Sign", name := "join", desc := "(II)I" } : Jvm.MethodName) ({ cls := "GridTable$Sign$1", name := "join", desc := "(II)I" } : Jvm.MethodName)) ∈ lw_all := lw_g (lw_at lw_m7 213 rfl) rfl
theorem q1765 : (Jvm.Cond.instanceMethod ({ cls := "GridTable$Sign$1", name := "join", desc := "(II)I" } : Jvm.MethodName)) ∈ lw_all := lw_g (lw_at lw_m7 214 rfl) rfl
theorem q1766 : (Jvm.Cond.code ({ cls := "GridTable$Sign$1", name := "join", desc := "(II)I" } : Jvm.MethodName) prog_19_method_2_code (3 : Nat) (Option.some Jvm.ClassFile.FieldType.int)) ∈ lw_all := lw_g (lw_at lw_m7 215 rfl) rfl
theorem q3310 : (Jvm.Cond.castable "GridTable$Sign$1" "java/lang/Enum") ∈ lw_tbl := lw_at lw_m14 79 rfl
theorem q3361 : (Jvm.Cond.castable "GridTable$Sign$1" "java/lang/Object") ∈ lw_tbl := lw_at lw_m14 130 rfl

/-! GridTable$Sign$2 -/
set_option maxRecDepth 100000
def RX32 : String := "GridTable$Sign$2"
abbrev cX32_join : ByteArray := prog_20_method_2_code
def yX32_join : MethodName := ⟨RX32, "join", "(II)I"⟩
def dkwX32_join_0 : List UInt8 := [27, 28, 100, 172]
abbrev dktX32_join_0 : List UInt8 := dkwX32_join_0 ++ []
theorem dksX32_join_0 : cX32_join.data.toList.drop 0 = dktX32_join_0 := by decide +kernel
theorem dX32_join_0 : decode cX32_join 0 = .ok (.iload_n 1, 1) := dk_27 (dk_at dksX32_join_0 0 rfl rfl)
theorem dX32_join_1 : decode cX32_join 1 = .ok (.iload_n 2, 1) := dk_28 (dk_at dksX32_join_0 1 rfl rfl)
theorem dX32_join_2 : decode cX32_join 2 = .ok (.isub, 1) := dk_100 (dk_at dksX32_join_0 2 rfl rfl)
theorem dX32_join_3 : decode cX32_join 3 = .ok (.ireturn, 1) := dk_172 (dk_at dksX32_join_0 3 rfl rfl)
theorem q820 : (Jvm.Cond.selects "GridTable$Sign$2" ({ cls := "java/lang/Object", name := "getClass", desc := "()Ljava/lang/Class;" } : Jvm.MethodName) ({ cls := "java/lang/Object", name := "getClass", desc := "()Ljava/lang/Class;" } : Jvm.MethodName)) ∈ lw_all := lw_g (lw_at lw_m3 229 rfl) rfl
theorem q1049 : (Jvm.Cond.selects "GridTable$Sign$2" ({ cls := "java/lang/Object", name := "hashCode", desc := "()I" } : Jvm.MethodName) ({ cls := "java/lang/Enum", name := "hashCode", desc := "()I" } : Jvm.MethodName)) ∈ lw_all := lw_g (lw_at lw_m4 218 rfl) rfl
theorem q1161 : (Jvm.Cond.selects "GridTable$Sign$2" ({ cls := "java/lang/Object", name := "equals", desc := "(Ljava/lang/Object;)Z" } : Jvm.MethodName) ({ cls := "java/lang/Enum", name := "equals", desc := "(Ljava/lang/Object;)Z" } : Jvm.MethodName)) ∈ lw_all := lw_g (lw_at lw_m5 90 rfl) rfl
theorem q1239 : (Jvm.Cond.selects "GridTable$Sign$2" ({ cls := "java/lang/Enum", name := "compareTo", desc := "(Ljava/lang/Enum;)I" } : Jvm.MethodName) ({ cls := "java/lang/Enum", name := "compareTo", desc := "(Ljava/lang/Enum;)I" } : Jvm.MethodName)) ∈ lw_all := lw_g (lw_at lw_m5 168 rfl) rfl
theorem q1258 : (Jvm.Cond.selects "GridTable$Sign$2" ({ cls := "java/lang/Enum", name := "getDeclaringClass", desc := "()Ljava/lang/Class;" } : Jvm.MethodName) ({ cls := "java/lang/Enum", name := "getDeclaringClass", desc := "()Ljava/lang/Class;" } : Jvm.MethodName)) ∈ lw_all := lw_g (lw_at lw_m5 187 rfl) rfl
theorem q1280 : (Jvm.Cond.castable "GridTable$Sign$2" "java/lang/Comparable") ∈ lw_tbl := lw_at lw_m5 209 rfl
theorem q1281 : (Jvm.Cond.selects "GridTable$Sign$2" ({ cls := "java/lang/Comparable", name := "compareTo", desc := "(Ljava/lang/Object;)I" } : Jvm.MethodName) ({ cls := "java/lang/Enum", name := "compareTo", desc := "(Ljava/lang/Object;)I" } : Jvm.MethodName)) ∈ lw_all := lw_g (lw_at lw_m5 210 rfl) rfl
theorem q1282 : (Jvm.Cond.unhidden "GridTable$Sign$2" "compareTo" "(Ljava/lang/Object;)I") ∈ lw_tbl := lw_at lw_m5 211 rfl
theorem q1767 : (Jvm.Cond.selects "GridTable$Sign$2" ({ cls := "GridTable$Sign", name := "join", desc := "(II)I" } : Jvm.MethodName) ({ cls := "GridTable$Sign$2", name := "join", desc := "(II)I" } : Jvm.MethodName)) ∈ lw_all := lw_g (lw_at lw_m7 216 rfl) rfl
theorem q1768 : (Jvm.Cond.instanceMethod ({ cls := "GridTable$Sign$2", name := "join", desc := "(II)I" } : Jvm.MethodName)) ∈ lw_all := lw_g (lw_at lw_m7 217 rfl) rfl
theorem q1769 : (Jvm.Cond.code ({ cls := "GridTable$Sign$2", name := "join", desc := "(II)I" } : Jvm.MethodName) prog_20_method_2_code (3 : Nat) (Option.some Jvm.ClassFile.FieldType.int)) ∈ lw_all := lw_g (lw_at lw_m7 218 rfl) rfl
theorem q3311 : (Jvm.Cond.castable "GridTable$Sign$2" "java/lang/Enum") ∈ lw_tbl := lw_at lw_m14 80 rfl
theorem q3362 : (Jvm.Cond.castable "GridTable$Sign$2" "java/lang/Object") ∈ lw_tbl := lw_at lw_m14 131 rfl

/-! GridTable$Sign$3 -/
set_option maxRecDepth 100000
def RX33 : String := "GridTable$Sign$3"
abbrev cX33_join : ByteArray := prog_21_method_2_code
def yX33_join : MethodName := ⟨RX33, "join", "(II)I"⟩
def dkwX33_join_0 : List UInt8 := [27, 28, 104, 172]
abbrev dktX33_join_0 : List UInt8 := dkwX33_join_0 ++ []
theorem dksX33_join_0 : cX33_join.data.toList.drop 0 = dktX33_join_0 := by decide +kernel
theorem dX33_join_0 : decode cX33_join 0 = .ok (.iload_n 1, 1) := dk_27 (dk_at dksX33_join_0 0 rfl rfl)
theorem dX33_join_1 : decode cX33_join 1 = .ok (.iload_n 2, 1) := dk_28 (dk_at dksX33_join_0 1 rfl rfl)
theorem dX33_join_2 : decode cX33_join 2 = .ok (.imul, 1) := dk_104 (dk_at dksX33_join_0 2 rfl rfl)
theorem dX33_join_3 : decode cX33_join 3 = .ok (.ireturn, 1) := dk_172 (dk_at dksX33_join_0 3 rfl rfl)
theorem q821 : (Jvm.Cond.selects "GridTable$Sign$3" ({ cls := "java/lang/Object", name := "getClass", desc := "()Ljava/lang/Class;" } : Jvm.MethodName) ({ cls := "java/lang/Object", name := "getClass", desc := "()Ljava/lang/Class;" } : Jvm.MethodName)) ∈ lw_all := lw_g (lw_at lw_m3 230 rfl) rfl
theorem q1050 : (Jvm.Cond.selects "GridTable$Sign$3" ({ cls := "java/lang/Object", name := "hashCode", desc := "()I" } : Jvm.MethodName) ({ cls := "java/lang/Enum", name := "hashCode", desc := "()I" } : Jvm.MethodName)) ∈ lw_all := lw_g (lw_at lw_m4 219 rfl) rfl
theorem q1162 : (Jvm.Cond.selects "GridTable$Sign$3" ({ cls := "java/lang/Object", name := "equals", desc := "(Ljava/lang/Object;)Z" } : Jvm.MethodName) ({ cls := "java/lang/Enum", name := "equals", desc := "(Ljava/lang/Object;)Z" } : Jvm.MethodName)) ∈ lw_all := lw_g (lw_at lw_m5 91 rfl) rfl
theorem q1240 : (Jvm.Cond.selects "GridTable$Sign$3" ({ cls := "java/lang/Enum", name := "compareTo", desc := "(Ljava/lang/Enum;)I" } : Jvm.MethodName) ({ cls := "java/lang/Enum", name := "compareTo", desc := "(Ljava/lang/Enum;)I" } : Jvm.MethodName)) ∈ lw_all := lw_g (lw_at lw_m5 169 rfl) rfl
theorem q1259 : (Jvm.Cond.selects "GridTable$Sign$3" ({ cls := "java/lang/Enum", name := "getDeclaringClass", desc := "()Ljava/lang/Class;" } : Jvm.MethodName) ({ cls := "java/lang/Enum", name := "getDeclaringClass", desc := "()Ljava/lang/Class;" } : Jvm.MethodName)) ∈ lw_all := lw_g (lw_at lw_m5 188 rfl) rfl
theorem q1283 : (Jvm.Cond.castable "GridTable$Sign$3" "java/lang/Comparable") ∈ lw_tbl := lw_at lw_m5 212 rfl
theorem q1284 : (Jvm.Cond.selects "GridTable$Sign$3" ({ cls := "java/lang/Comparable", name := "compareTo", desc := "(Ljava/lang/Object;)I" } : Jvm.MethodName) ({ cls := "java/lang/Enum", name := "compareTo", desc := "(Ljava/lang/Object;)I" } : Jvm.MethodName)) ∈ lw_all := lw_g (lw_at lw_m5 213 rfl) rfl
theorem q1285 : (Jvm.Cond.unhidden "GridTable$Sign$3" "compareTo" "(Ljava/lang/Object;)I") ∈ lw_tbl := lw_at lw_m5 214 rfl
theorem q1770 : (Jvm.Cond.selects "GridTable$Sign$3" ({ cls := "GridTable$Sign", name := "join", desc := "(II)I" } : Jvm.MethodName) ({ cls := "GridTable$Sign$3", name := "join", desc := "(II)I" } : Jvm.MethodName)) ∈ lw_all := lw_g (lw_at lw_m7 219 rfl) rfl
theorem q1771 : (Jvm.Cond.instanceMethod ({ cls := "GridTable$Sign$3", name := "join", desc := "(II)I" } : Jvm.MethodName)) ∈ lw_all := lw_g (lw_at lw_m7 220 rfl) rfl
theorem q1772 : (Jvm.Cond.code ({ cls := "GridTable$Sign$3", name := "join", desc := "(II)I" } : Jvm.MethodName) prog_21_method_2_code (3 : Nat) (Option.some Jvm.ClassFile.FieldType.int)) ∈ lw_all := lw_g (lw_at lw_m7 221 rfl) rfl
theorem q3312 : (Jvm.Cond.castable "GridTable$Sign$3" "java/lang/Enum") ∈ lw_tbl := lw_at lw_m14 81 rfl
theorem q3359 : (Jvm.Cond.castable "GridTable$Sign$3" "java/lang/Object") ∈ lw_tbl := lw_at lw_m14 128 rfl

/-! GridTable$Sign$4 -/
set_option maxRecDepth 100000
def RX34 : String := "GridTable$Sign$4"
abbrev cX34_join : ByteArray := prog_22_method_2_code
def yX34_join : MethodName := ⟨RX34, "join", "(II)I"⟩
def dkwX34_join_0 : List UInt8 := [28, 154, 0, 7, 3, 167, 0, 6, 27, 28, 108, 172]
abbrev dktX34_join_0 : List UInt8 := dkwX34_join_0 ++ []
theorem dksX34_join_0 : cX34_join.data.toList.drop 0 = dktX34_join_0 := by decide +kernel
theorem dX34_join_0 : decode cX34_join 0 = .ok (.iload_n 2, 1) := dk_28 (dk_at dksX34_join_0 0 rfl rfl)
theorem dX34_join_1 : decode cX34_join 1 = .ok (.ifCond .ne 7, 3) := dk_154 0 7 (dk_at dksX34_join_0 1 rfl rfl)
theorem dX34_join_4 : decode cX34_join 4 = .ok (.iconst 0, 1) := dk_3 (dk_at dksX34_join_0 4 rfl rfl)
theorem dX34_join_5 : decode cX34_join 5 = .ok (.goto 6, 3) := dk_167 0 6 (dk_at dksX34_join_0 5 rfl rfl)
theorem dX34_join_8 : decode cX34_join 8 = .ok (.iload_n 1, 1) := dk_27 (dk_at dksX34_join_0 8 rfl rfl)
theorem dX34_join_9 : decode cX34_join 9 = .ok (.iload_n 2, 1) := dk_28 (dk_at dksX34_join_0 9 rfl rfl)
theorem dX34_join_10 : decode cX34_join 10 = .ok (.idiv, 1) := dk_108 (dk_at dksX34_join_0 10 rfl rfl)
theorem dX34_join_11 : decode cX34_join 11 = .ok (.ireturn, 1) := dk_172 (dk_at dksX34_join_0 11 rfl rfl)
theorem q822 : (Jvm.Cond.selects "GridTable$Sign$4" ({ cls := "java/lang/Object", name := "getClass", desc := "()Ljava/lang/Class;" } : Jvm.MethodName) ({ cls := "java/lang/Object", name := "getClass", desc := "()Ljava/lang/Class;" } : Jvm.MethodName)) ∈ lw_all := lw_g (lw_at lw_m3 231 rfl) rfl
theorem q1051 : (Jvm.Cond.selects "GridTable$Sign$4" ({ cls := "java/lang/Object", name := "hashCode", desc := "()I" } : Jvm.MethodName) ({ cls := "java/lang/Enum", name := "hashCode", desc := "()I" } : Jvm.MethodName)) ∈ lw_all := lw_g (lw_at lw_m4 220 rfl) rfl
theorem q1163 : (Jvm.Cond.selects "GridTable$Sign$4" ({ cls := "java/lang/Object", name := "equals", desc := "(Ljava/lang/Object;)Z" } : Jvm.MethodName) ({ cls := "java/lang/Enum", name := "equals", desc := "(Ljava/lang/Object;)Z" } : Jvm.MethodName)) ∈ lw_all := lw_g (lw_at lw_m5 92 rfl) rfl
theorem q1241 : (Jvm.Cond.selects "GridTable$Sign$4" ({ cls := "java/lang/Enum", name := "compareTo", desc := "(Ljava/lang/Enum;)I" } : Jvm.MethodName) ({ cls := "java/lang/Enum", name := "compareTo", desc := "(Ljava/lang/Enum;)I" } : Jvm.MethodName)) ∈ lw_all := lw_g (lw_at lw_m5 170 rfl) rfl
theorem q1260 : (Jvm.Cond.selects "GridTable$Sign$4" ({ cls := "java/lang/Enum", name := "getDeclaringClass", desc := "()Ljava/lang/Class;" } : Jvm.MethodName) ({ cls := "java/lang/Enum", name := "getDeclaringClass", desc := "()Ljava/lang/Class;" } : Jvm.MethodName)) ∈ lw_all := lw_g (lw_at lw_m5 189 rfl) rfl
theorem q1286 : (Jvm.Cond.castable "GridTable$Sign$4" "java/lang/Comparable") ∈ lw_tbl := lw_at lw_m5 215 rfl
theorem q1287 : (Jvm.Cond.selects "GridTable$Sign$4" ({ cls := "java/lang/Comparable", name := "compareTo", desc := "(Ljava/lang/Object;)I" } : Jvm.MethodName) ({ cls := "java/lang/Enum", name := "compareTo", desc := "(Ljava/lang/Object;)I" } : Jvm.MethodName)) ∈ lw_all := lw_g (lw_at lw_m5 216 rfl) rfl
theorem q1288 : (Jvm.Cond.unhidden "GridTable$Sign$4" "compareTo" "(Ljava/lang/Object;)I") ∈ lw_tbl := lw_at lw_m5 217 rfl
theorem q1773 : (Jvm.Cond.selects "GridTable$Sign$4" ({ cls := "GridTable$Sign", name := "join", desc := "(II)I" } : Jvm.MethodName) ({ cls := "GridTable$Sign$4", name := "join", desc := "(II)I" } : Jvm.MethodName)) ∈ lw_all := lw_g (lw_at lw_m7 222 rfl) rfl
theorem q1774 : (Jvm.Cond.instanceMethod ({ cls := "GridTable$Sign$4", name := "join", desc := "(II)I" } : Jvm.MethodName)) ∈ lw_all := lw_g (lw_at lw_m7 223 rfl) rfl
theorem q1775 : (Jvm.Cond.code ({ cls := "GridTable$Sign$4", name := "join", desc := "(II)I" } : Jvm.MethodName) prog_22_method_2_code (3 : Nat) (Option.some Jvm.ClassFile.FieldType.int)) ∈ lw_all := lw_g (lw_at lw_m7 224 rfl) rfl
theorem q3313 : (Jvm.Cond.castable "GridTable$Sign$4" "java/lang/Enum") ∈ lw_tbl := lw_at lw_m14 82 rfl
theorem q3360 : (Jvm.Cond.castable "GridTable$Sign$4" "java/lang/Object") ∈ lw_tbl := lw_at lw_m14 129 rfl

/-! GridTable$Sign$5 -/
set_option maxRecDepth 100000
def RX35 : String := "GridTable$Sign$5"
abbrev cX35_join : ByteArray := prog_23_method_2_code
def yX35_join : MethodName := ⟨RX35, "join", "(II)I"⟩
def dkwX35_join_0 : List UInt8 := [27, 28, 184, 0, 7, 172]
abbrev dktX35_join_0 : List UInt8 := dkwX35_join_0 ++ []
theorem dksX35_join_0 : cX35_join.data.toList.drop 0 = dktX35_join_0 := by decide +kernel
theorem dX35_join_0 : decode cX35_join 0 = .ok (.iload_n 1, 1) := dk_27 (dk_at dksX35_join_0 0 rfl rfl)
theorem dX35_join_1 : decode cX35_join 1 = .ok (.iload_n 2, 1) := dk_28 (dk_at dksX35_join_0 1 rfl rfl)
theorem dX35_join_2 : decode cX35_join 2 = .ok (.invokestatic 7, 3) := dk_184 0 7 (dk_at dksX35_join_0 2 rfl rfl)
theorem dX35_join_5 : decode cX35_join 5 = .ok (.ireturn, 1) := dk_172 (dk_at dksX35_join_0 5 rfl rfl)
theorem q823 : (Jvm.Cond.selects "GridTable$Sign$5" ({ cls := "java/lang/Object", name := "getClass", desc := "()Ljava/lang/Class;" } : Jvm.MethodName) ({ cls := "java/lang/Object", name := "getClass", desc := "()Ljava/lang/Class;" } : Jvm.MethodName)) ∈ lw_all := lw_g (lw_at lw_m3 232 rfl) rfl
theorem q1052 : (Jvm.Cond.selects "GridTable$Sign$5" ({ cls := "java/lang/Object", name := "hashCode", desc := "()I" } : Jvm.MethodName) ({ cls := "java/lang/Enum", name := "hashCode", desc := "()I" } : Jvm.MethodName)) ∈ lw_all := lw_g (lw_at lw_m4 221 rfl) rfl
theorem q1164 : (Jvm.Cond.selects "GridTable$Sign$5" ({ cls := "java/lang/Object", name := "equals", desc := "(Ljava/lang/Object;)Z" } : Jvm.MethodName) ({ cls := "java/lang/Enum", name := "equals", desc := "(Ljava/lang/Object;)Z" } : Jvm.MethodName)) ∈ lw_all := lw_g (lw_at lw_m5 93 rfl) rfl
theorem q1242 : (Jvm.Cond.selects "GridTable$Sign$5" ({ cls := "java/lang/Enum", name := "compareTo", desc := "(Ljava/lang/Enum;)I" } : Jvm.MethodName) ({ cls := "java/lang/Enum", name := "compareTo", desc := "(Ljava/lang/Enum;)I" } : Jvm.MethodName)) ∈ lw_all := lw_g (lw_at lw_m5 171 rfl) rfl
theorem q1261 : (Jvm.Cond.selects "GridTable$Sign$5" ({ cls := "java/lang/Enum", name := "getDeclaringClass", desc := "()Ljava/lang/Class;" } : Jvm.MethodName) ({ cls := "java/lang/Enum", name := "getDeclaringClass", desc := "()Ljava/lang/Class;" } : Jvm.MethodName)) ∈ lw_all := lw_g (lw_at lw_m5 190 rfl) rfl
theorem q1289 : (Jvm.Cond.castable "GridTable$Sign$5" "java/lang/Comparable") ∈ lw_tbl := lw_at lw_m5 218 rfl
theorem q1290 : (Jvm.Cond.selects "GridTable$Sign$5" ({ cls := "java/lang/Comparable", name := "compareTo", desc := "(Ljava/lang/Object;)I" } : Jvm.MethodName) ({ cls := "java/lang/Enum", name := "compareTo", desc := "(Ljava/lang/Object;)I" } : Jvm.MethodName)) ∈ lw_all := lw_g (lw_at lw_m5 219 rfl) rfl
theorem q1291 : (Jvm.Cond.unhidden "GridTable$Sign$5" "compareTo" "(Ljava/lang/Object;)I") ∈ lw_tbl := lw_at lw_m5 220 rfl
theorem q1776 : (Jvm.Cond.selects "GridTable$Sign$5" ({ cls := "GridTable$Sign", name := "join", desc := "(II)I" } : Jvm.MethodName) ({ cls := "GridTable$Sign$5", name := "join", desc := "(II)I" } : Jvm.MethodName)) ∈ lw_all := lw_g (lw_at lw_m7 225 rfl) rfl
theorem q1777 : (Jvm.Cond.instanceMethod ({ cls := "GridTable$Sign$5", name := "join", desc := "(II)I" } : Jvm.MethodName)) ∈ lw_all := lw_g (lw_at lw_m7 226 rfl) rfl
theorem q1778 : (Jvm.Cond.code ({ cls := "GridTable$Sign$5", name := "join", desc := "(II)I" } : Jvm.MethodName) prog_23_method_2_code (3 : Nat) (Option.some Jvm.ClassFile.FieldType.int)) ∈ lw_all := lw_g (lw_at lw_m7 227 rfl) rfl
theorem q1779 : (Jvm.Cond.methodLink "GridTable$Sign$5" (7 : Nat) ({ cls := "java/lang/Math", name := "min", desc := "(II)I" } : Jvm.MethodName)) ∈ lw_all := lw_g (lw_at lw_m7 228 rfl) rfl
theorem q3314 : (Jvm.Cond.castable "GridTable$Sign$5" "java/lang/Enum") ∈ lw_tbl := lw_at lw_m14 83 rfl
theorem q3356 : (Jvm.Cond.castable "GridTable$Sign$5" "java/lang/Object") ∈ lw_tbl := lw_at lw_m14 125 rfl

/-! GridTable$Sign$6 -/
set_option maxRecDepth 100000
def RX36 : String := "GridTable$Sign$6"
abbrev cX36_join : ByteArray := prog_24_method_2_code
def yX36_join : MethodName := ⟨RX36, "join", "(II)I"⟩
def dkwX36_join_0 : List UInt8 := [27, 28, 184, 0, 7, 172]
abbrev dktX36_join_0 : List UInt8 := dkwX36_join_0 ++ []
theorem dksX36_join_0 : cX36_join.data.toList.drop 0 = dktX36_join_0 := by decide +kernel
theorem dX36_join_0 : decode cX36_join 0 = .ok (.iload_n 1, 1) := dk_27 (dk_at dksX36_join_0 0 rfl rfl)
theorem dX36_join_1 : decode cX36_join 1 = .ok (.iload_n 2, 1) := dk_28 (dk_at dksX36_join_0 1 rfl rfl)
theorem dX36_join_2 : decode cX36_join 2 = .ok (.invokestatic 7, 3) := dk_184 0 7 (dk_at dksX36_join_0 2 rfl rfl)
theorem dX36_join_5 : decode cX36_join 5 = .ok (.ireturn, 1) := dk_172 (dk_at dksX36_join_0 5 rfl rfl)
theorem q824 : (Jvm.Cond.selects "GridTable$Sign$6" ({ cls := "java/lang/Object", name := "getClass", desc := "()Ljava/lang/Class;" } : Jvm.MethodName) ({ cls := "java/lang/Object", name := "getClass", desc := "()Ljava/lang/Class;" } : Jvm.MethodName)) ∈ lw_all := lw_g (lw_at lw_m3 233 rfl) rfl
theorem q1053 : (Jvm.Cond.selects "GridTable$Sign$6" ({ cls := "java/lang/Object", name := "hashCode", desc := "()I" } : Jvm.MethodName) ({ cls := "java/lang/Enum", name := "hashCode", desc := "()I" } : Jvm.MethodName)) ∈ lw_all := lw_g (lw_at lw_m4 222 rfl) rfl
theorem q1165 : (Jvm.Cond.selects "GridTable$Sign$6" ({ cls := "java/lang/Object", name := "equals", desc := "(Ljava/lang/Object;)Z" } : Jvm.MethodName) ({ cls := "java/lang/Enum", name := "equals", desc := "(Ljava/lang/Object;)Z" } : Jvm.MethodName)) ∈ lw_all := lw_g (lw_at lw_m5 94 rfl) rfl
theorem q1243 : (Jvm.Cond.selects "GridTable$Sign$6" ({ cls := "java/lang/Enum", name := "compareTo", desc := "(Ljava/lang/Enum;)I" } : Jvm.MethodName) ({ cls := "java/lang/Enum", name := "compareTo", desc := "(Ljava/lang/Enum;)I" } : Jvm.MethodName)) ∈ lw_all := lw_g (lw_at lw_m5 172 rfl) rfl
theorem q1262 : (Jvm.Cond.selects "GridTable$Sign$6" ({ cls := "java/lang/Enum", name := "getDeclaringClass", desc := "()Ljava/lang/Class;" } : Jvm.MethodName) ({ cls := "java/lang/Enum", name := "getDeclaringClass", desc := "()Ljava/lang/Class;" } : Jvm.MethodName)) ∈ lw_all := lw_g (lw_at lw_m5 191 rfl) rfl
theorem q1292 : (Jvm.Cond.castable "GridTable$Sign$6" "java/lang/Comparable") ∈ lw_tbl := lw_at lw_m5 221 rfl
theorem q1293 : (Jvm.Cond.selects "GridTable$Sign$6" ({ cls := "java/lang/Comparable", name := "compareTo", desc := "(Ljava/lang/Object;)I" } : Jvm.MethodName) ({ cls := "java/lang/Enum", name := "compareTo", desc := "(Ljava/lang/Object;)I" } : Jvm.MethodName)) ∈ lw_all := lw_g (lw_at lw_m5 222 rfl) rfl
theorem q1294 : (Jvm.Cond.unhidden "GridTable$Sign$6" "compareTo" "(Ljava/lang/Object;)I") ∈ lw_tbl := lw_at lw_m5 223 rfl
theorem q1780 : (Jvm.Cond.selects "GridTable$Sign$6" ({ cls := "GridTable$Sign", name := "join", desc := "(II)I" } : Jvm.MethodName) ({ cls := "GridTable$Sign$6", name := "join", desc := "(II)I" } : Jvm.MethodName)) ∈ lw_all := lw_g (lw_at lw_m7 229 rfl) rfl
theorem q1781 : (Jvm.Cond.instanceMethod ({ cls := "GridTable$Sign$6", name := "join", desc := "(II)I" } : Jvm.MethodName)) ∈ lw_all := lw_g (lw_at lw_m7 230 rfl) rfl
theorem q1782 : (Jvm.Cond.code ({ cls := "GridTable$Sign$6", name := "join", desc := "(II)I" } : Jvm.MethodName) prog_24_method_2_code (3 : Nat) (Option.some Jvm.ClassFile.FieldType.int)) ∈ lw_all := lw_g (lw_at lw_m7 231 rfl) rfl
theorem q1783 : (Jvm.Cond.methodLink "GridTable$Sign$6" (7 : Nat) ({ cls := "java/lang/Math", name := "max", desc := "(II)I" } : Jvm.MethodName)) ∈ lw_all := lw_g (lw_at lw_m7 232 rfl) rfl
theorem q3315 : (Jvm.Cond.castable "GridTable$Sign$6" "java/lang/Enum") ∈ lw_tbl := lw_at lw_m14 84 rfl
theorem q3357 : (Jvm.Cond.castable "GridTable$Sign$6" "java/lang/Object") ∈ lw_tbl := lw_at lw_m14 126 rfl

/-! java/lang/System$2 -/
set_option maxRecDepth 100000
def RJ34 : String := "java/lang/System$2"
abbrev cJ34_getUTF16Char : ByteArray := prog_68_method_45_code
def yJ34_getUTF16Char : MethodName := ⟨RJ34, "getUTF16Char", "([BI)C"⟩
def dkwJ34_getUTF16Char_0 : List UInt8 := [43, 28, 184, 0, 185, 172]
abbrev dktJ34_getUTF16Char_0 : List UInt8 := dkwJ34_getUTF16Char_0 ++ []
theorem dksJ34_getUTF16Char_0 : cJ34_getUTF16Char.data.toList.drop 0 = dktJ34_getUTF16Char_0 := by decide +kernel
theorem dJ34_getUTF16Char_0 : decode cJ34_getUTF16Char 0 = .ok (.aload_n 1, 1) := dk_43 (dk_at dksJ34_getUTF16Char_0 0 rfl rfl)
theorem dJ34_getUTF16Char_1 : decode cJ34_getUTF16Char 1 = .ok (.iload_n 2, 1) := dk_28 (dk_at dksJ34_getUTF16Char_0 1 rfl rfl)
theorem dJ34_getUTF16Char_2 : decode cJ34_getUTF16Char 2 = .ok (.invokestatic 185, 3) := dk_184 0 185 (dk_at dksJ34_getUTF16Char_0 2 rfl rfl)
theorem dJ34_getUTF16Char_5 : decode cJ34_getUTF16Char 5 = .ok (.ireturn, 1) := dk_172 (dk_at dksJ34_getUTF16Char_0 5 rfl rfl)
theorem q846 : (Jvm.Cond.selects "java/lang/System$2" ({ cls := "java/lang/Object", name := "getClass", desc := "()Ljava/lang/Class;" } : Jvm.MethodName) ({ cls := "java/lang/Object", name := "getClass", desc := "()Ljava/lang/Class;" } : Jvm.MethodName)) ∈ lw_all := lw_g (lw_at lw_m4 15 rfl) rfl
theorem q1100 : (Jvm.Cond.castable "java/lang/System$2" "jdk/internal/access/JavaLangAccess") ∈ lw_tbl := lw_at lw_m5 29 rfl
theorem q1101 : (Jvm.Cond.selects "java/lang/System$2" ({ cls := "jdk/internal/access/JavaLangAccess", name := "getUTF16Char", desc := "([BI)C" } : Jvm.MethodName) ({ cls := "java/lang/System$2", name := "getUTF16Char", desc := "([BI)C" } : Jvm.MethodName)) ∈ lw_all := lw_g (lw_at lw_m5 30 rfl) rfl
theorem q1102 : (Jvm.Cond.unhidden "java/lang/System$2" "getUTF16Char" "([BI)C") ∈ lw_tbl := lw_at lw_m5 31 rfl
theorem q1103 : (Jvm.Cond.instanceMethod ({ cls := "java/lang/System$2", name := "getUTF16Char", desc := "([BI)C" } : Jvm.MethodName)) ∈ lw_all := lw_g (lw_at lw_m5 32 rfl) rfl
theorem q1104 : (Jvm.Cond.publicMethod ({ cls := "java/lang/System$2", name := "getUTF16Char", desc := "([BI)C" } : Jvm.MethodName)) ∈ lw_tbl := lw_at lw_m5 33 rfl
theorem q1105 : (Jvm.Cond.code ({ cls := "java/lang/System$2", name := "getUTF16Char", desc := "([BI)C" } : Jvm.MethodName) prog_68_method_45_code (3 : Nat) (Option.some Jvm.ClassFile.FieldType.char)) ∈ lw_all := lw_g (lw_at lw_m5 34 rfl) rfl
theorem q1106 : (Jvm.Cond.methodLink "java/lang/System$2" (185 : Nat) ({ cls := "java/lang/StringUTF16", name := "getChar", desc := "([BI)C" } : Jvm.MethodName)) ∈ lw_all := lw_g (lw_at lw_m5 35 rfl) rfl
theorem q1135 : (Jvm.Cond.selects "java/lang/System$2" ({ cls := "java/lang/Object", name := "hashCode", desc := "()I" } : Jvm.MethodName) ({ cls := "java/lang/Object", name := "hashCode", desc := "()I" } : Jvm.MethodName)) ∈ lw_all := lw_g (lw_at lw_m5 64 rfl) rfl
theorem q1194 : (Jvm.Cond.selects "java/lang/System$2" ({ cls := "java/lang/Object", name := "equals", desc := "(Ljava/lang/Object;)Z" } : Jvm.MethodName) ({ cls := "java/lang/Object", name := "equals", desc := "(Ljava/lang/Object;)Z" } : Jvm.MethodName)) ∈ lw_all := lw_g (lw_at lw_m5 123 rfl) rfl
theorem q3344 : (Jvm.Cond.castable "java/lang/System$2" "java/lang/Object") ∈ lw_tbl := lw_at lw_m14 113 rfl

/-! the law's own entry -/
set_option maxRecDepth 100000
abbrev cL_law : ByteArray := code
def dkwL_law_59 : List UInt8 := [167, 250, 119, 4, 172]
abbrev dktL_law_59 : List UInt8 := dkwL_law_59 ++ []
def dkwL_law_58 : List UInt8 := [3, 172, 167, 0, 17, 43, 182, 0, 160, 44, 182, 0, 164, 148, 153, 0, 5, 3, 172, 132, 4, 6]
abbrev dktL_law_58 : List UInt8 := dkwL_law_58 ++ dktL_law_59
def dkwL_law_57 : List UInt8 := [24, 5, 24, 7, 151, 153, 0, 21, 24, 5, 24, 5, 151, 153, 0, 11, 24, 7, 24, 7, 151, 154, 0, 5]
abbrev dktL_law_57 : List UInt8 := dkwL_law_57 ++ dktL_law_58
def dkwL_law_56 : List UInt8 := [21, 6, 133, 148, 153, 0, 5, 3, 172, 167, 0, 58, 43, 182, 0, 155, 57, 5, 44, 182, 0, 159, 57, 7]
abbrev dktL_law_56 : List UInt8 := dkwL_law_56 ++ dktL_law_57
def dkwL_law_55 : List UInt8 := [182, 0, 154, 54, 6, 44, 182, 0, 85, 21, 5, 159, 0, 5, 3, 172, 21, 5, 154, 0, 15, 45, 3, 47]
abbrev dktL_law_55 : List UInt8 := dkwL_law_55 ++ dktL_law_56
def dkwL_law_54 : List UInt8 := [167, 0, 114, 43, 42, 21, 4, 4, 96, 46, 45, 184, 0, 152, 54, 5, 44, 42, 21, 4, 4, 96, 46]
abbrev dktL_law_54 : List UInt8 := dkwL_law_54 ++ dktL_law_55
def dkwL_law_53 : List UInt8 := [21, 5, 159, 0, 5, 3, 172, 21, 5, 154, 0, 15, 45, 3, 47, 21, 6, 133, 148, 153, 0, 5, 3, 172]
abbrev dktL_law_53 : List UInt8 := dkwL_law_53 ++ dktL_law_54
def dkwL_law_52 : List UInt8 := [46, 45, 184, 0, 149, 54, 5, 44, 42, 21, 4, 4, 96, 46, 182, 0, 151, 54, 6, 44, 182, 0, 85]
abbrev dktL_law_52 : List UInt8 := dkwL_law_52 ++ dktL_law_53
def dkwL_law_51 : List UInt8 := [154, 0, 15, 45, 3, 47, 21, 6, 133, 148, 153, 0, 5, 3, 172, 167, 0, 170, 43, 42, 21, 4, 4, 96]
abbrev dktL_law_51 : List UInt8 := dkwL_law_51 ++ dktL_law_52
def dkwL_law_50 : List UInt8 := [21, 4, 5, 96, 46, 182, 0, 148, 54, 6, 44, 182, 0, 85, 21, 5, 159, 0, 5, 3, 172, 21, 5]
abbrev dktL_law_50 : List UInt8 := dkwL_law_50 ++ dktL_law_51
def dkwL_law_49 : List UInt8 := [4, 96, 46, 42, 21, 4, 5, 96, 46, 45, 184, 0, 146, 54, 5, 44, 42, 21, 4, 4, 96, 46, 42]
abbrev dktL_law_49 : List UInt8 := dkwL_law_49 ++ dktL_law_50
def dkwL_law_48 : List UInt8 := [21, 5, 154, 0, 15, 45, 3, 47, 21, 6, 133, 148, 153, 0, 5, 3, 172, 167, 0, 238, 43, 42, 21, 4]
abbrev dktL_law_48 : List UInt8 := dkwL_law_48 ++ dktL_law_49
def dkwL_law_47 : List UInt8 := [45, 184, 0, 142, 54, 5, 44, 182, 0, 145, 54, 6, 44, 182, 0, 85, 21, 5, 159, 0, 5, 3, 172]
abbrev dktL_law_47 : List UInt8 := dkwL_law_47 ++ dktL_law_48
def dkwL_law_46 : List UInt8 := [9, 148, 153, 0, 5, 3, 172, 167, 1, 39, 43, 182, 0, 138, 44, 182, 0, 141, 159, 1, 28, 3, 172, 43]
abbrev dktL_law_46 : List UInt8 := dkwL_law_46 ++ dktL_law_47
def dkwL_law_45 : List UInt8 := [21, 5, 159, 0, 5, 3, 172, 21, 5, 154, 0, 22, 45, 3, 47, 21, 6, 153, 0, 7, 10, 167, 0, 4]
abbrev dktL_law_45 : List UInt8 := dkwL_law_45 ++ dktL_law_46
def dkwL_law_44 : List UInt8 := [46, 45, 184, 0, 135, 54, 5, 44, 42, 21, 4, 4, 96, 46, 182, 0, 137, 54, 6, 44, 182, 0, 85]
abbrev dktL_law_44 : List UInt8 := dkwL_law_44 ++ dktL_law_45
def dkwL_law_43 : List UInt8 := [154, 0, 15, 45, 3, 47, 21, 6, 133, 148, 153, 0, 5, 3, 172, 167, 1, 102, 43, 42, 21, 4, 4, 96]
abbrev dktL_law_43 : List UInt8 := dkwL_law_43 ++ dktL_law_44
def dkwL_law_42 : List UInt8 := [21, 4, 6, 96, 46, 182, 0, 134, 54, 6, 44, 182, 0, 85, 21, 5, 159, 0, 5, 3, 172, 21, 5]
abbrev dktL_law_42 : List UInt8 := dkwL_law_42 ++ dktL_law_43
def dkwL_law_41 : List UInt8 := [6, 96, 46, 45, 184, 0, 131, 54, 5, 44, 42, 21, 4, 4, 96, 46, 42, 21, 4, 5, 96, 46, 42]
abbrev dktL_law_41 : List UInt8 := dkwL_law_41 ++ dktL_law_42
def dkwL_law_40 : List UInt8 := [153, 0, 5, 3, 172, 167, 1, 182, 43, 42, 21, 4, 4, 96, 46, 42, 21, 4, 5, 96, 46, 42, 21, 4]
abbrev dktL_law_40 : List UInt8 := dkwL_law_40 ++ dktL_law_41
def dkwL_law_39 : List UInt8 := [182, 0, 85, 21, 5, 159, 0, 5, 3, 172, 21, 5, 154, 0, 15, 45, 3, 47, 21, 6, 133, 148]
abbrev dktL_law_39 : List UInt8 := dkwL_law_39 ++ dktL_law_40
def dkwL_law_38 : List UInt8 := [184, 0, 128, 54, 5, 44, 42, 21, 4, 4, 96, 46, 42, 21, 4, 5, 96, 46, 182, 0, 130, 54, 6, 44]
abbrev dktL_law_38 : List UInt8 := dkwL_law_38 ++ dktL_law_39
def dkwL_law_37 : List UInt8 := [153, 0, 5, 3, 172, 167, 1, 250, 43, 42, 21, 4, 4, 96, 46, 42, 21, 4, 5, 96, 46, 45]
abbrev dktL_law_37 : List UInt8 := dkwL_law_37 ++ dktL_law_38
def dkwL_law_36 : List UInt8 := [182, 0, 85, 21, 5, 159, 0, 5, 3, 172, 21, 5, 154, 0, 15, 45, 3, 47, 21, 6, 133, 148]
abbrev dktL_law_36 : List UInt8 := dkwL_law_36 ++ dktL_law_37
def dkwL_law_35 : List UInt8 := [184, 0, 125, 54, 5, 44, 42, 21, 4, 4, 96, 46, 42, 21, 4, 5, 96, 46, 182, 0, 127, 54, 6, 44]
abbrev dktL_law_35 : List UInt8 := dkwL_law_35 ++ dktL_law_36
def dkwL_law_34 : List UInt8 := [153, 0, 5, 3, 172, 167, 2, 62, 43, 42, 21, 4, 4, 96, 46, 42, 21, 4, 5, 96, 46, 45]
abbrev dktL_law_34 : List UInt8 := dkwL_law_34 ++ dktL_law_35
def dkwL_law_33 : List UInt8 := [182, 0, 85, 21, 5, 159, 0, 5, 3, 172, 21, 5, 154, 0, 15, 45, 3, 47, 21, 6, 133, 148]
abbrev dktL_law_33 : List UInt8 := dkwL_law_33 ++ dktL_law_34
def dkwL_law_32 : List UInt8 := [184, 0, 122, 54, 5, 44, 42, 21, 4, 4, 96, 46, 42, 21, 4, 5, 96, 46, 182, 0, 124, 54, 6, 44]
abbrev dktL_law_32 : List UInt8 := dkwL_law_32 ++ dktL_law_33
def dkwL_law_31 : List UInt8 := [153, 0, 5, 3, 172, 167, 2, 130, 43, 42, 21, 4, 4, 96, 46, 42, 21, 4, 5, 96, 46, 45]
abbrev dktL_law_31 : List UInt8 := dkwL_law_31 ++ dktL_law_32
def dkwL_law_30 : List UInt8 := [182, 0, 85, 21, 5, 159, 0, 5, 3, 172, 21, 5, 154, 0, 15, 45, 3, 47, 21, 6, 133, 148]
abbrev dktL_law_30 : List UInt8 := dkwL_law_30 ++ dktL_law_31
def dkwL_law_29 : List UInt8 := [184, 0, 119, 54, 5, 44, 42, 21, 4, 4, 96, 46, 42, 21, 4, 5, 96, 46, 182, 0, 121, 54, 6, 44]
abbrev dktL_law_29 : List UInt8 := dkwL_law_29 ++ dktL_law_30
def dkwL_law_28 : List UInt8 := [153, 0, 5, 3, 172, 167, 2, 198, 43, 42, 21, 4, 4, 96, 46, 42, 21, 4, 5, 96, 46, 45]
abbrev dktL_law_28 : List UInt8 := dkwL_law_28 ++ dktL_law_29
def dkwL_law_27 : List UInt8 := [182, 0, 85, 21, 5, 159, 0, 5, 3, 172, 21, 5, 154, 0, 15, 45, 3, 47, 21, 6, 133, 148]
abbrev dktL_law_27 : List UInt8 := dkwL_law_27 ++ dktL_law_28
def dkwL_law_26 : List UInt8 := [184, 0, 116, 54, 5, 44, 42, 21, 4, 4, 96, 46, 42, 21, 4, 5, 96, 46, 182, 0, 118, 54, 6, 44]
abbrev dktL_law_26 : List UInt8 := dkwL_law_26 ++ dktL_law_27
def dkwL_law_25 : List UInt8 := [153, 0, 5, 3, 172, 167, 3, 10, 43, 42, 21, 4, 4, 96, 46, 42, 21, 4, 5, 96, 46, 45]
abbrev dktL_law_25 : List UInt8 := dkwL_law_25 ++ dktL_law_26
def dkwL_law_24 : List UInt8 := [182, 0, 85, 21, 5, 159, 0, 5, 3, 172, 21, 5, 154, 0, 15, 45, 3, 47, 21, 6, 133, 148]
abbrev dktL_law_24 : List UInt8 := dkwL_law_24 ++ dktL_law_25
def dkwL_law_23 : List UInt8 := [184, 0, 113, 54, 5, 44, 42, 21, 4, 4, 96, 46, 42, 21, 4, 5, 96, 46, 182, 0, 115, 54, 6, 44]
abbrev dktL_law_23 : List UInt8 := dkwL_law_23 ++ dktL_law_24
def dkwL_law_22 : List UInt8 := [153, 0, 5, 3, 172, 167, 3, 78, 43, 42, 21, 4, 4, 96, 46, 42, 21, 4, 5, 96, 46, 45]
abbrev dktL_law_22 : List UInt8 := dkwL_law_22 ++ dktL_law_23
def dkwL_law_21 : List UInt8 := [182, 0, 85, 21, 5, 159, 0, 5, 3, 172, 21, 5, 154, 0, 15, 45, 3, 47, 21, 6, 133, 148]
abbrev dktL_law_21 : List UInt8 := dkwL_law_21 ++ dktL_law_22
def dkwL_law_20 : List UInt8 := [184, 0, 110, 54, 5, 44, 42, 21, 4, 4, 96, 46, 42, 21, 4, 5, 96, 46, 182, 0, 112, 54, 6, 44]
abbrev dktL_law_20 : List UInt8 := dkwL_law_20 ++ dktL_law_21
def dkwL_law_19 : List UInt8 := [153, 0, 5, 3, 172, 167, 3, 146, 43, 42, 21, 4, 4, 96, 46, 42, 21, 4, 5, 96, 46, 45]
abbrev dktL_law_19 : List UInt8 := dkwL_law_19 ++ dktL_law_20
def dkwL_law_18 : List UInt8 := [182, 0, 85, 21, 5, 159, 0, 5, 3, 172, 21, 5, 154, 0, 15, 45, 3, 47, 21, 6, 133, 148]
abbrev dktL_law_18 : List UInt8 := dkwL_law_18 ++ dktL_law_19
def dkwL_law_17 : List UInt8 := [184, 0, 107, 54, 5, 44, 42, 21, 4, 4, 96, 46, 42, 21, 4, 5, 96, 46, 182, 0, 109, 54, 6, 44]
abbrev dktL_law_17 : List UInt8 := dkwL_law_17 ++ dktL_law_18
def dkwL_law_16 : List UInt8 := [153, 0, 5, 3, 172, 167, 3, 214, 43, 42, 21, 4, 4, 96, 46, 42, 21, 4, 5, 96, 46, 45]
abbrev dktL_law_16 : List UInt8 := dkwL_law_16 ++ dktL_law_17
def dkwL_law_15 : List UInt8 := [182, 0, 85, 21, 5, 159, 0, 5, 3, 172, 21, 5, 154, 0, 15, 45, 3, 47, 21, 6, 133, 148]
abbrev dktL_law_15 : List UInt8 := dkwL_law_15 ++ dktL_law_16
def dkwL_law_14 : List UInt8 := [184, 0, 103, 54, 5, 44, 42, 21, 4, 4, 96, 46, 42, 21, 4, 5, 96, 46, 182, 0, 106, 54, 6, 44]
abbrev dktL_law_14 : List UInt8 := dkwL_law_14 ++ dktL_law_15
def dkwL_law_13 : List UInt8 := [153, 0, 5, 3, 172, 167, 4, 26, 43, 42, 21, 4, 4, 96, 46, 42, 21, 4, 5, 96, 46, 45]
abbrev dktL_law_13 : List UInt8 := dkwL_law_13 ++ dktL_law_14
def dkwL_law_12 : List UInt8 := [182, 0, 85, 21, 5, 159, 0, 5, 3, 172, 21, 5, 154, 0, 15, 45, 3, 47, 21, 6, 133, 148]
abbrev dktL_law_12 : List UInt8 := dkwL_law_12 ++ dktL_law_13
def dkwL_law_11 : List UInt8 := [21, 4, 4, 96, 46, 45, 184, 0, 100, 54, 5, 44, 42, 21, 4, 4, 96, 46, 182, 0, 102, 54, 6, 44]
abbrev dktL_law_11 : List UInt8 := dkwL_law_11 ++ dktL_law_12
def dkwL_law_10 : List UInt8 := [182, 0, 95, 159, 4, 97, 3, 172, 43, 182, 0, 96, 44, 182, 0, 99, 159, 4, 84, 3, 172, 43, 42]
abbrev dktL_law_10 : List UInt8 := dkwL_law_10 ++ dktL_law_11
def dkwL_law_9 : List UInt8 := [154, 0, 15, 45, 3, 47, 21, 6, 133, 148, 153, 0, 5, 3, 172, 167, 4, 108, 43, 182, 0, 92, 44]
abbrev dktL_law_9 : List UInt8 := dkwL_law_9 ++ dktL_law_10
def dkwL_law_8 : List UInt8 := [21, 4, 4, 96, 46, 182, 0, 91, 54, 6, 44, 182, 0, 85, 21, 5, 159, 0, 5, 3, 172, 21, 5]
abbrev dktL_law_8 : List UInt8 := dkwL_law_8 ++ dktL_law_9
def dkwL_law_7 : List UInt8 := [148, 153, 0, 5, 3, 172, 167, 4, 164, 43, 42, 21, 4, 4, 96, 46, 45, 184, 0, 88, 54, 5, 44, 42]
abbrev dktL_law_7 : List UInt8 := dkwL_law_7 ++ dktL_law_8
def dkwL_law_6 : List UInt8 := [54, 6, 44, 182, 0, 85, 21, 5, 159, 0, 5, 3, 172, 21, 5, 154, 0, 15, 45, 3, 47, 21, 6, 133]
abbrev dktL_law_6 : List UInt8 := dkwL_law_6 ++ dktL_law_7
def dkwL_law_5 : List UInt8 := [96, 46, 42, 21, 4, 6, 96, 46, 42, 21, 4, 7, 96, 46, 42, 21, 4, 8, 96, 46, 182, 0, 84]
abbrev dktL_law_5 : List UInt8 := dkwL_law_5 ++ dktL_law_6
def dkwL_law_4 : List UInt8 := [46, 42, 21, 4, 8, 96, 46, 45, 184, 0, 79, 54, 5, 44, 42, 21, 4, 4, 96, 46, 42, 21, 4, 5]
abbrev dktL_law_4 : List UInt8 := dkwL_law_4 ++ dktL_law_5
def dkwL_law_3 : List UInt8 := [43, 42, 21, 4, 4, 96, 46, 42, 21, 4, 5, 96, 46, 42, 21, 4, 6, 96, 46, 42, 21, 4, 7, 96]
abbrev dktL_law_3 : List UInt8 := dkwL_law_3 ++ dktL_law_4
def dkwL_law_2 : List UInt8 := [170, 0, 0, 0, 0, 0, 5, 117, 0, 0, 0, 0, 0, 0, 0, 22, 0, 0, 0, 108, 0, 0, 0, 212, 0, 0, 1, 12, 0, 0, 1, 25, 0, 0, 1, 38, 0, 0, 1, 94, 0, 0, 1, 162, 0, 0, 1, 230, 0, 0, 2, 42, 0, 0, 2, 110, 0, 0, 2, 178, 0, 0, 2, 246, 0, 0, 3, 58, 0, 0, 3, 126, 0, 0, 3, 194, 0, 0, 4, 18, 0, 0, 4, 81, 0, 0, 4, 94, 0, 0, 4, 138, 0, 0, 4, 206, 0, 0, 5, 6, 0, 0, 5, 62, 0, 0, 5, 103]
abbrev dktL_law_2 : List UInt8 := dkwL_law_2 ++ dktL_law_3
def dkwL_law_1 : List UInt8 := [21, 4, 42, 190, 16, 6, 100, 163, 5, 133, 42, 21, 4, 46, 16, 31, 126]
abbrev dktL_law_1 : List UInt8 := dkwL_law_1 ++ dktL_law_2
def dkwL_law_0 : List UInt8 := [187, 0, 8, 89, 183, 0, 75, 76, 187, 0, 76, 89, 183, 0, 78, 77, 4, 188, 11, 78, 3, 54, 4]
abbrev dktL_law_0 : List UInt8 := dkwL_law_0 ++ dktL_law_1
theorem dksL_law_0 : cL_law.data.toList.drop 0 = dktL_law_0 := by decide +kernel
theorem dksL_law_1 : cL_law.data.toList.drop 23 = dktL_law_1 := dk_seg dksL_law_0 23 rfl rfl
theorem dksL_law_2 : cL_law.data.toList.drop 40 = dktL_law_2 := dk_seg dksL_law_1 17 rfl rfl
theorem dksL_law_3 : cL_law.data.toList.drop 148 = dktL_law_3 := dk_seg dksL_law_2 108 rfl rfl
theorem dksL_law_4 : cL_law.data.toList.drop 172 = dktL_law_4 := dk_seg dksL_law_3 24 rfl rfl
theorem dksL_law_5 : cL_law.data.toList.drop 196 = dktL_law_5 := dk_seg dksL_law_4 24 rfl rfl
theorem dksL_law_6 : cL_law.data.toList.drop 219 = dktL_law_6 := dk_seg dksL_law_5 23 rfl rfl
theorem dksL_law_7 : cL_law.data.toList.drop 243 = dktL_law_7 := dk_seg dksL_law_6 24 rfl rfl
theorem dksL_law_8 : cL_law.data.toList.drop 267 = dktL_law_8 := dk_seg dksL_law_7 24 rfl rfl
theorem dksL_law_9 : cL_law.data.toList.drop 290 = dktL_law_9 := dk_seg dksL_law_8 23 rfl rfl
theorem dksL_law_10 : cL_law.data.toList.drop 313 = dktL_law_10 := dk_seg dksL_law_9 23 rfl rfl
theorem dksL_law_11 : cL_law.data.toList.drop 336 = dktL_law_11 := dk_seg dksL_law_10 23 rfl rfl
theorem dksL_law_12 : cL_law.data.toList.drop 360 = dktL_law_12 := dk_seg dksL_law_11 24 rfl rfl
theorem dksL_law_13 : cL_law.data.toList.drop 382 = dktL_law_13 := dk_seg dksL_law_12 22 rfl rfl
theorem dksL_law_14 : cL_law.data.toList.drop 404 = dktL_law_14 := dk_seg dksL_law_13 22 rfl rfl
theorem dksL_law_15 : cL_law.data.toList.drop 428 = dktL_law_15 := dk_seg dksL_law_14 24 rfl rfl
theorem dksL_law_16 : cL_law.data.toList.drop 450 = dktL_law_16 := dk_seg dksL_law_15 22 rfl rfl
theorem dksL_law_17 : cL_law.data.toList.drop 472 = dktL_law_17 := dk_seg dksL_law_16 22 rfl rfl
theorem dksL_law_18 : cL_law.data.toList.drop 496 = dktL_law_18 := dk_seg dksL_law_17 24 rfl rfl
theorem dksL_law_19 : cL_law.data.toList.drop 518 = dktL_law_19 := dk_seg dksL_law_18 22 rfl rfl
theorem dksL_law_20 : cL_law.data.toList.drop 540 = dktL_law_20 := dk_seg dksL_law_19 22 rfl rfl
theorem dksL_law_21 : cL_law.data.toList.drop 564 = dktL_law_21 := dk_seg dksL_law_20 24 rfl rfl
theorem dksL_law_22 : cL_law.data.toList.drop 586 = dktL_law_22 := dk_seg dksL_law_21 22 rfl rfl
theorem dksL_law_23 : cL_law.data.toList.drop 608 = dktL_law_23 := dk_seg dksL_law_22 22 rfl rfl
theorem dksL_law_24 : cL_law.data.toList.drop 632 = dktL_law_24 := dk_seg dksL_law_23 24 rfl rfl
theorem dksL_law_25 : cL_law.data.toList.drop 654 = dktL_law_25 := dk_seg dksL_law_24 22 rfl rfl
theorem dksL_law_26 : cL_law.data.toList.drop 676 = dktL_law_26 := dk_seg dksL_law_25 22 rfl rfl
theorem dksL_law_27 : cL_law.data.toList.drop 700 = dktL_law_27 := dk_seg dksL_law_26 24 rfl rfl
theorem dksL_law_28 : cL_law.data.toList.drop 722 = dktL_law_28 := dk_seg dksL_law_27 22 rfl rfl
theorem dksL_law_29 : cL_law.data.toList.drop 744 = dktL_law_29 := dk_seg dksL_law_28 22 rfl rfl
theorem dksL_law_30 : cL_law.data.toList.drop 768 = dktL_law_30 := dk_seg dksL_law_29 24 rfl rfl
theorem dksL_law_31 : cL_law.data.toList.drop 790 = dktL_law_31 := dk_seg dksL_law_30 22 rfl rfl
theorem dksL_law_32 : cL_law.data.toList.drop 812 = dktL_law_32 := dk_seg dksL_law_31 22 rfl rfl
theorem dksL_law_33 : cL_law.data.toList.drop 836 = dktL_law_33 := dk_seg dksL_law_32 24 rfl rfl
theorem dksL_law_34 : cL_law.data.toList.drop 858 = dktL_law_34 := dk_seg dksL_law_33 22 rfl rfl
theorem dksL_law_35 : cL_law.data.toList.drop 880 = dktL_law_35 := dk_seg dksL_law_34 22 rfl rfl
theorem dksL_law_36 : cL_law.data.toList.drop 904 = dktL_law_36 := dk_seg dksL_law_35 24 rfl rfl
theorem dksL_law_37 : cL_law.data.toList.drop 926 = dktL_law_37 := dk_seg dksL_law_36 22 rfl rfl
theorem dksL_law_38 : cL_law.data.toList.drop 948 = dktL_law_38 := dk_seg dksL_law_37 22 rfl rfl
theorem dksL_law_39 : cL_law.data.toList.drop 972 = dktL_law_39 := dk_seg dksL_law_38 24 rfl rfl
theorem dksL_law_40 : cL_law.data.toList.drop 994 = dktL_law_40 := dk_seg dksL_law_39 22 rfl rfl
theorem dksL_law_41 : cL_law.data.toList.drop 1018 = dktL_law_41 := dk_seg dksL_law_40 24 rfl rfl
theorem dksL_law_42 : cL_law.data.toList.drop 1041 = dktL_law_42 := dk_seg dksL_law_41 23 rfl rfl
theorem dksL_law_43 : cL_law.data.toList.drop 1064 = dktL_law_43 := dk_seg dksL_law_42 23 rfl rfl
theorem dksL_law_44 : cL_law.data.toList.drop 1088 = dktL_law_44 := dk_seg dksL_law_43 24 rfl rfl
theorem dksL_law_45 : cL_law.data.toList.drop 1111 = dktL_law_45 := dk_seg dksL_law_44 23 rfl rfl
theorem dksL_law_46 : cL_law.data.toList.drop 1135 = dktL_law_46 := dk_seg dksL_law_45 24 rfl rfl
theorem dksL_law_47 : cL_law.data.toList.drop 1159 = dktL_law_47 := dk_seg dksL_law_46 24 rfl rfl
theorem dksL_law_48 : cL_law.data.toList.drop 1182 = dktL_law_48 := dk_seg dksL_law_47 23 rfl rfl
theorem dksL_law_49 : cL_law.data.toList.drop 1206 = dktL_law_49 := dk_seg dksL_law_48 24 rfl rfl
theorem dksL_law_50 : cL_law.data.toList.drop 1229 = dktL_law_50 := dk_seg dksL_law_49 23 rfl rfl
theorem dksL_law_51 : cL_law.data.toList.drop 1252 = dktL_law_51 := dk_seg dksL_law_50 23 rfl rfl
theorem dksL_law_52 : cL_law.data.toList.drop 1276 = dktL_law_52 := dk_seg dksL_law_51 24 rfl rfl
theorem dksL_law_53 : cL_law.data.toList.drop 1299 = dktL_law_53 := dk_seg dksL_law_52 23 rfl rfl
theorem dksL_law_54 : cL_law.data.toList.drop 1323 = dktL_law_54 := dk_seg dksL_law_53 24 rfl rfl
theorem dksL_law_55 : cL_law.data.toList.drop 1346 = dktL_law_55 := dk_seg dksL_law_54 23 rfl rfl
theorem dksL_law_56 : cL_law.data.toList.drop 1370 = dktL_law_56 := dk_seg dksL_law_55 24 rfl rfl
theorem dksL_law_57 : cL_law.data.toList.drop 1394 = dktL_law_57 := dk_seg dksL_law_56 24 rfl rfl
theorem dksL_law_58 : cL_law.data.toList.drop 1418 = dktL_law_58 := dk_seg dksL_law_57 24 rfl rfl
theorem dksL_law_59 : cL_law.data.toList.drop 1440 = dktL_law_59 := dk_seg dksL_law_58 22 rfl rfl
theorem dL_law_0 : decode cL_law 0 = .ok (.new 8, 3) := dk_187 0 8 (dk_at dksL_law_0 0 rfl rfl)
theorem dL_law_3 : decode cL_law 3 = .ok (.dup, 1) := dk_89 (dk_at dksL_law_0 3 rfl rfl)
theorem dL_law_4 : decode cL_law 4 = .ok (.invokespecial 75, 3) := dk_183 0 75 (dk_at dksL_law_0 4 rfl rfl)
theorem dL_law_7 : decode cL_law 7 = .ok (.astore_n 1, 1) := dk_76 (dk_at dksL_law_0 7 rfl rfl)
theorem dL_law_8 : decode cL_law 8 = .ok (.new 76, 3) := dk_187 0 76 (dk_at dksL_law_0 8 rfl rfl)
theorem dL_law_11 : decode cL_law 11 = .ok (.dup, 1) := dk_89 (dk_at dksL_law_0 11 rfl rfl)
theorem dL_law_12 : decode cL_law 12 = .ok (.invokespecial 78, 3) := dk_183 0 78 (dk_at dksL_law_0 12 rfl rfl)
theorem dL_law_15 : decode cL_law 15 = .ok (.astore_n 2, 1) := dk_77 (dk_at dksL_law_0 15 rfl rfl)
theorem dL_law_16 : decode cL_law 16 = .ok (.iconst 1, 1) := dk_4 (dk_at dksL_law_0 16 rfl rfl)
theorem dL_law_17 : decode cL_law 17 = .ok (.newarray .long, 2) := dk_188_11 (dk_at dksL_law_0 17 rfl rfl)
theorem dL_law_19 : decode cL_law 19 = .ok (.astore_n 3, 1) := dk_78 (dk_at dksL_law_0 19 rfl rfl)
theorem dL_law_20 : decode cL_law 20 = .ok (.iconst 0, 1) := dk_3 (dk_at dksL_law_0 20 rfl rfl)
theorem dL_law_21 : decode cL_law 21 = .ok (.istore 4, 2) := dk_54 4 (dk_at dksL_law_0 21 rfl rfl)
theorem dL_law_23 : decode cL_law 23 = .ok (.iload 4, 2) := dk_21 4 (dk_at dksL_law_1 0 rfl rfl)
theorem dL_law_25 : decode cL_law 25 = .ok (.aload_n 0, 1) := dk_42 (dk_at dksL_law_1 2 rfl rfl)
theorem dL_law_26 : decode cL_law 26 = .ok (.arraylength, 1) := dk_190 (dk_at dksL_law_1 3 rfl rfl)
theorem dL_law_27 : decode cL_law 27 = .ok (.bipush 6, 2) := dk_16 6 (dk_at dksL_law_1 4 rfl rfl)
theorem dL_law_29 : decode cL_law 29 = .ok (.isub, 1) := dk_100 (dk_at dksL_law_1 6 rfl rfl)
theorem dL_law_30 : decode cL_law 30 = .ok (.if_icmp .gt 1413, 3) := dk_163 5 133 (dk_at dksL_law_1 7 rfl rfl)
theorem dL_law_33 : decode cL_law 33 = .ok (.aload_n 0, 1) := dk_42 (dk_at dksL_law_1 10 rfl rfl)
theorem dL_law_34 : decode cL_law 34 = .ok (.iload 4, 2) := dk_21 4 (dk_at dksL_law_1 11 rfl rfl)
theorem dL_law_36 : decode cL_law 36 = .ok (.iaload, 1) := dk_46 (dk_at dksL_law_1 13 rfl rfl)
theorem dL_law_37 : decode cL_law 37 = .ok (.bipush 31, 2) := dk_16 31 (dk_at dksL_law_1 14 rfl rfl)
theorem dL_law_39 : decode cL_law 39 = .ok (.iand, 1) := dk_126 (dk_at dksL_law_1 16 rfl rfl)
theorem dL_law_40 : decode cL_law 40 = .ok (.tableswitch 1397 0 22 #[108, 212, 268, 281, 294, 350, 418, 486, 554, 622, 690, 758, 826, 894, 962, 1042, 1105, 1118, 1162, 1230, 1286, 1342, 1383], 108) := by decide +kernel
theorem dL_law_148 : decode cL_law 148 = .ok (.aload_n 1, 1) := dk_43 (dk_at dksL_law_3 0 rfl rfl)
theorem dL_law_149 : decode cL_law 149 = .ok (.aload_n 0, 1) := dk_42 (dk_at dksL_law_3 1 rfl rfl)
theorem dL_law_150 : decode cL_law 150 = .ok (.iload 4, 2) := dk_21 4 (dk_at dksL_law_3 2 rfl rfl)
theorem dL_law_152 : decode cL_law 152 = .ok (.iconst 1, 1) := dk_4 (dk_at dksL_law_3 4 rfl rfl)
theorem dL_law_153 : decode cL_law 153 = .ok (.iadd, 1) := dk_96 (dk_at dksL_law_3 5 rfl rfl)
theorem dL_law_154 : decode cL_law 154 = .ok (.iaload, 1) := dk_46 (dk_at dksL_law_3 6 rfl rfl)
theorem dL_law_155 : decode cL_law 155 = .ok (.aload_n 0, 1) := dk_42 (dk_at dksL_law_3 7 rfl rfl)
theorem dL_law_156 : decode cL_law 156 = .ok (.iload 4, 2) := dk_21 4 (dk_at dksL_law_3 8 rfl rfl)
theorem dL_law_158 : decode cL_law 158 = .ok (.iconst 2, 1) := dk_5 (dk_at dksL_law_3 10 rfl rfl)
theorem dL_law_159 : decode cL_law 159 = .ok (.iadd, 1) := dk_96 (dk_at dksL_law_3 11 rfl rfl)
theorem dL_law_160 : decode cL_law 160 = .ok (.iaload, 1) := dk_46 (dk_at dksL_law_3 12 rfl rfl)
theorem dL_law_161 : decode cL_law 161 = .ok (.aload_n 0, 1) := dk_42 (dk_at dksL_law_3 13 rfl rfl)
theorem dL_law_162 : decode cL_law 162 = .ok (.iload 4, 2) := dk_21 4 (dk_at dksL_law_3 14 rfl rfl)
theorem dL_law_164 : decode cL_law 164 = .ok (.iconst 3, 1) := dk_6 (dk_at dksL_law_3 16 rfl rfl)
theorem dL_law_165 : decode cL_law 165 = .ok (.iadd, 1) := dk_96 (dk_at dksL_law_3 17 rfl rfl)
theorem dL_law_166 : decode cL_law 166 = .ok (.iaload, 1) := dk_46 (dk_at dksL_law_3 18 rfl rfl)
theorem dL_law_167 : decode cL_law 167 = .ok (.aload_n 0, 1) := dk_42 (dk_at dksL_law_3 19 rfl rfl)
theorem dL_law_168 : decode cL_law 168 = .ok (.iload 4, 2) := dk_21 4 (dk_at dksL_law_3 20 rfl rfl)
theorem dL_law_170 : decode cL_law 170 = .ok (.iconst 4, 1) := dk_7 (dk_at dksL_law_3 22 rfl rfl)
theorem dL_law_171 : decode cL_law 171 = .ok (.iadd, 1) := dk_96 (dk_at dksL_law_3 23 rfl rfl)
theorem dL_law_172 : decode cL_law 172 = .ok (.iaload, 1) := dk_46 (dk_at dksL_law_4 0 rfl rfl)
theorem dL_law_173 : decode cL_law 173 = .ok (.aload_n 0, 1) := dk_42 (dk_at dksL_law_4 1 rfl rfl)
theorem dL_law_174 : decode cL_law 174 = .ok (.iload 4, 2) := dk_21 4 (dk_at dksL_law_4 2 rfl rfl)
theorem dL_law_176 : decode cL_law 176 = .ok (.iconst 5, 1) := dk_8 (dk_at dksL_law_4 4 rfl rfl)
theorem dL_law_177 : decode cL_law 177 = .ok (.iadd, 1) := dk_96 (dk_at dksL_law_4 5 rfl rfl)
theorem dL_law_178 : decode cL_law 178 = .ok (.iaload, 1) := dk_46 (dk_at dksL_law_4 6 rfl rfl)
theorem dL_law_179 : decode cL_law 179 = .ok (.aload_n 3, 1) := dk_45 (dk_at dksL_law_4 7 rfl rfl)
theorem dL_law_180 : decode cL_law 180 = .ok (.invokestatic 79, 3) := dk_184 0 79 (dk_at dksL_law_4 8 rfl rfl)
theorem dL_law_183 : decode cL_law 183 = .ok (.istore 5, 2) := dk_54 5 (dk_at dksL_law_4 11 rfl rfl)
theorem dL_law_185 : decode cL_law 185 = .ok (.aload_n 2, 1) := dk_44 (dk_at dksL_law_4 13 rfl rfl)
theorem dL_law_186 : decode cL_law 186 = .ok (.aload_n 0, 1) := dk_42 (dk_at dksL_law_4 14 rfl rfl)
theorem dL_law_187 : decode cL_law 187 = .ok (.iload 4, 2) := dk_21 4 (dk_at dksL_law_4 15 rfl rfl)
theorem dL_law_189 : decode cL_law 189 = .ok (.iconst 1, 1) := dk_4 (dk_at dksL_law_4 17 rfl rfl)
theorem dL_law_190 : decode cL_law 190 = .ok (.iadd, 1) := dk_96 (dk_at dksL_law_4 18 rfl rfl)
theorem dL_law_191 : decode cL_law 191 = .ok (.iaload, 1) := dk_46 (dk_at dksL_law_4 19 rfl rfl)
theorem dL_law_192 : decode cL_law 192 = .ok (.aload_n 0, 1) := dk_42 (dk_at dksL_law_4 20 rfl rfl)
theorem dL_law_193 : decode cL_law 193 = .ok (.iload 4, 2) := dk_21 4 (dk_at dksL_law_4 21 rfl rfl)
theorem dL_law_195 : decode cL_law 195 = .ok (.iconst 2, 1) := dk_5 (dk_at dksL_law_4 23 rfl rfl)
theorem dL_law_196 : decode cL_law 196 = .ok (.iadd, 1) := dk_96 (dk_at dksL_law_5 0 rfl rfl)
theorem dL_law_197 : decode cL_law 197 = .ok (.iaload, 1) := dk_46 (dk_at dksL_law_5 1 rfl rfl)
theorem dL_law_198 : decode cL_law 198 = .ok (.aload_n 0, 1) := dk_42 (dk_at dksL_law_5 2 rfl rfl)
theorem dL_law_199 : decode cL_law 199 = .ok (.iload 4, 2) := dk_21 4 (dk_at dksL_law_5 3 rfl rfl)
theorem dL_law_201 : decode cL_law 201 = .ok (.iconst 3, 1) := dk_6 (dk_at dksL_law_5 5 rfl rfl)
theorem dL_law_202 : decode cL_law 202 = .ok (.iadd, 1) := dk_96 (dk_at dksL_law_5 6 rfl rfl)
theorem dL_law_203 : decode cL_law 203 = .ok (.iaload, 1) := dk_46 (dk_at dksL_law_5 7 rfl rfl)
theorem dL_law_204 : decode cL_law 204 = .ok (.aload_n 0, 1) := dk_42 (dk_at dksL_law_5 8 rfl rfl)
theorem dL_law_205 : decode cL_law 205 = .ok (.iload 4, 2) := dk_21 4 (dk_at dksL_law_5 9 rfl rfl)
theorem dL_law_207 : decode cL_law 207 = .ok (.iconst 4, 1) := dk_7 (dk_at dksL_law_5 11 rfl rfl)
theorem dL_law_208 : decode cL_law 208 = .ok (.iadd, 1) := dk_96 (dk_at dksL_law_5 12 rfl rfl)
theorem dL_law_209 : decode cL_law 209 = .ok (.iaload, 1) := dk_46 (dk_at dksL_law_5 13 rfl rfl)
theorem dL_law_210 : decode cL_law 210 = .ok (.aload_n 0, 1) := dk_42 (dk_at dksL_law_5 14 rfl rfl)
theorem dL_law_211 : decode cL_law 211 = .ok (.iload 4, 2) := dk_21 4 (dk_at dksL_law_5 15 rfl rfl)
theorem dL_law_213 : decode cL_law 213 = .ok (.iconst 5, 1) := dk_8 (dk_at dksL_law_5 17 rfl rfl)
theorem dL_law_214 : decode cL_law 214 = .ok (.iadd, 1) := dk_96 (dk_at dksL_law_5 18 rfl rfl)
theorem dL_law_215 : decode cL_law 215 = .ok (.iaload, 1) := dk_46 (dk_at dksL_law_5 19 rfl rfl)
theorem dL_law_216 : decode cL_law 216 = .ok (.invokevirtual 84, 3) := dk_182 0 84 (dk_at dksL_law_5 20 rfl rfl)
theorem dL_law_219 : decode cL_law 219 = .ok (.istore 6, 2) := dk_54 6 (dk_at dksL_law_6 0 rfl rfl)
theorem dL_law_221 : decode cL_law 221 = .ok (.aload_n 2, 1) := dk_44 (dk_at dksL_law_6 2 rfl rfl)
theorem dL_law_222 : decode cL_law 222 = .ok (.invokevirtual 85, 3) := dk_182 0 85 (dk_at dksL_law_6 3 rfl rfl)
theorem dL_law_225 : decode cL_law 225 = .ok (.iload 5, 2) := dk_21 5 (dk_at dksL_law_6 6 rfl rfl)
theorem dL_law_227 : decode cL_law 227 = .ok (.if_icmp .eq 5, 3) := dk_159 0 5 (dk_at dksL_law_6 8 rfl rfl)
theorem dL_law_230 : decode cL_law 230 = .ok (.iconst 0, 1) := dk_3 (dk_at dksL_law_6 11 rfl rfl)
theorem dL_law_231 : decode cL_law 231 = .ok (.ireturn, 1) := dk_172 (dk_at dksL_law_6 12 rfl rfl)
theorem dL_law_232 : decode cL_law 232 = .ok (.iload 5, 2) := dk_21 5 (dk_at dksL_law_6 13 rfl rfl)
theorem dL_law_234 : decode cL_law 234 = .ok (.ifCond .ne 15, 3) := dk_154 0 15 (dk_at dksL_law_6 15 rfl rfl)
theorem dL_law_237 : decode cL_law 237 = .ok (.aload_n 3, 1) := dk_45 (dk_at dksL_law_6 18 rfl rfl)
theorem dL_law_238 : decode cL_law 238 = .ok (.iconst 0, 1) := dk_3 (dk_at dksL_law_6 19 rfl rfl)
theorem dL_law_239 : decode cL_law 239 = .ok (.laload, 1) := dk_47 (dk_at dksL_law_6 20 rfl rfl)
theorem dL_law_240 : decode cL_law 240 = .ok (.iload 6, 2) := dk_21 6 (dk_at dksL_law_6 21 rfl rfl)
theorem dL_law_242 : decode cL_law 242 = .ok (.i2l, 1) := dk_133 (dk_at dksL_law_6 23 rfl rfl)
theorem dL_law_243 : decode cL_law 243 = .ok (.lcmp, 1) := dk_148 (dk_at dksL_law_7 0 rfl rfl)
theorem dL_law_244 : decode cL_law 244 = .ok (.ifCond .eq 5, 3) := dk_153 0 5 (dk_at dksL_law_7 1 rfl rfl)
theorem dL_law_247 : decode cL_law 247 = .ok (.iconst 0, 1) := dk_3 (dk_at dksL_law_7 4 rfl rfl)
theorem dL_law_248 : decode cL_law 248 = .ok (.ireturn, 1) := dk_172 (dk_at dksL_law_7 5 rfl rfl)
theorem dL_law_249 : decode cL_law 249 = .ok (.goto 1188, 3) := dk_167 4 164 (dk_at dksL_law_7 6 rfl rfl)
theorem dL_law_252 : decode cL_law 252 = .ok (.aload_n 1, 1) := dk_43 (dk_at dksL_law_7 9 rfl rfl)
theorem dL_law_253 : decode cL_law 253 = .ok (.aload_n 0, 1) := dk_42 (dk_at dksL_law_7 10 rfl rfl)
theorem dL_law_254 : decode cL_law 254 = .ok (.iload 4, 2) := dk_21 4 (dk_at dksL_law_7 11 rfl rfl)
theorem dL_law_256 : decode cL_law 256 = .ok (.iconst 1, 1) := dk_4 (dk_at dksL_law_7 13 rfl rfl)
theorem dL_law_257 : decode cL_law 257 = .ok (.iadd, 1) := dk_96 (dk_at dksL_law_7 14 rfl rfl)
theorem dL_law_258 : decode cL_law 258 = .ok (.iaload, 1) := dk_46 (dk_at dksL_law_7 15 rfl rfl)
theorem dL_law_259 : decode cL_law 259 = .ok (.aload_n 3, 1) := dk_45 (dk_at dksL_law_7 16 rfl rfl)
theorem dL_law_260 : decode cL_law 260 = .ok (.invokestatic 88, 3) := dk_184 0 88 (dk_at dksL_law_7 17 rfl rfl)
theorem dL_law_263 : decode cL_law 263 = .ok (.istore 5, 2) := dk_54 5 (dk_at dksL_law_7 20 rfl rfl)
theorem dL_law_265 : decode cL_law 265 = .ok (.aload_n 2, 1) := dk_44 (dk_at dksL_law_7 22 rfl rfl)
theorem dL_law_266 : decode cL_law 266 = .ok (.aload_n 0, 1) := dk_42 (dk_at dksL_law_7 23 rfl rfl)
theorem dL_law_267 : decode cL_law 267 = .ok (.iload 4, 2) := dk_21 4 (dk_at dksL_law_8 0 rfl rfl)
theorem dL_law_269 : decode cL_law 269 = .ok (.iconst 1, 1) := dk_4 (dk_at dksL_law_8 2 rfl rfl)
theorem dL_law_270 : decode cL_law 270 = .ok (.iadd, 1) := dk_96 (dk_at dksL_law_8 3 rfl rfl)
theorem dL_law_271 : decode cL_law 271 = .ok (.iaload, 1) := dk_46 (dk_at dksL_law_8 4 rfl rfl)
theorem dL_law_272 : decode cL_law 272 = .ok (.invokevirtual 91, 3) := dk_182 0 91 (dk_at dksL_law_8 5 rfl rfl)
theorem dL_law_275 : decode cL_law 275 = .ok (.istore 6, 2) := dk_54 6 (dk_at dksL_law_8 8 rfl rfl)
theorem dL_law_277 : decode cL_law 277 = .ok (.aload_n 2, 1) := dk_44 (dk_at dksL_law_8 10 rfl rfl)
theorem dL_law_278 : decode cL_law 278 = .ok (.invokevirtual 85, 3) := dk_182 0 85 (dk_at dksL_law_8 11 rfl rfl)
theorem dL_law_281 : decode cL_law 281 = .ok (.iload 5, 2) := dk_21 5 (dk_at dksL_law_8 14 rfl rfl)
theorem dL_law_283 : decode cL_law 283 = .ok (.if_icmp .eq 5, 3) := dk_159 0 5 (dk_at dksL_law_8 16 rfl rfl)
theorem dL_law_286 : decode cL_law 286 = .ok (.iconst 0, 1) := dk_3 (dk_at dksL_law_8 19 rfl rfl)
theorem dL_law_287 : decode cL_law 287 = .ok (.ireturn, 1) := dk_172 (dk_at dksL_law_8 20 rfl rfl)
theorem dL_law_288 : decode cL_law 288 = .ok (.iload 5, 2) := dk_21 5 (dk_at dksL_law_8 21 rfl rfl)
theorem dL_law_290 : decode cL_law 290 = .ok (.ifCond .ne 15, 3) := dk_154 0 15 (dk_at dksL_law_9 0 rfl rfl)
theorem dL_law_293 : decode cL_law 293 = .ok (.aload_n 3, 1) := dk_45 (dk_at dksL_law_9 3 rfl rfl)
theorem dL_law_294 : decode cL_law 294 = .ok (.iconst 0, 1) := dk_3 (dk_at dksL_law_9 4 rfl rfl)
theorem dL_law_295 : decode cL_law 295 = .ok (.laload, 1) := dk_47 (dk_at dksL_law_9 5 rfl rfl)
theorem dL_law_296 : decode cL_law 296 = .ok (.iload 6, 2) := dk_21 6 (dk_at dksL_law_9 6 rfl rfl)
theorem dL_law_298 : decode cL_law 298 = .ok (.i2l, 1) := dk_133 (dk_at dksL_law_9 8 rfl rfl)
theorem dL_law_299 : decode cL_law 299 = .ok (.lcmp, 1) := dk_148 (dk_at dksL_law_9 9 rfl rfl)
theorem dL_law_300 : decode cL_law 300 = .ok (.ifCond .eq 5, 3) := dk_153 0 5 (dk_at dksL_law_9 10 rfl rfl)
theorem dL_law_303 : decode cL_law 303 = .ok (.iconst 0, 1) := dk_3 (dk_at dksL_law_9 13 rfl rfl)
theorem dL_law_304 : decode cL_law 304 = .ok (.ireturn, 1) := dk_172 (dk_at dksL_law_9 14 rfl rfl)
theorem dL_law_305 : decode cL_law 305 = .ok (.goto 1132, 3) := dk_167 4 108 (dk_at dksL_law_9 15 rfl rfl)
theorem dL_law_308 : decode cL_law 308 = .ok (.aload_n 1, 1) := dk_43 (dk_at dksL_law_9 18 rfl rfl)
theorem dL_law_309 : decode cL_law 309 = .ok (.invokevirtual 92, 3) := dk_182 0 92 (dk_at dksL_law_9 19 rfl rfl)
theorem dL_law_312 : decode cL_law 312 = .ok (.aload_n 2, 1) := dk_44 (dk_at dksL_law_9 22 rfl rfl)
theorem dL_law_313 : decode cL_law 313 = .ok (.invokevirtual 95, 3) := dk_182 0 95 (dk_at dksL_law_10 0 rfl rfl)
theorem dL_law_316 : decode cL_law 316 = .ok (.if_icmp .eq 1121, 3) := dk_159 4 97 (dk_at dksL_law_10 3 rfl rfl)
theorem dL_law_319 : decode cL_law 319 = .ok (.iconst 0, 1) := dk_3 (dk_at dksL_law_10 6 rfl rfl)
theorem dL_law_320 : decode cL_law 320 = .ok (.ireturn, 1) := dk_172 (dk_at dksL_law_10 7 rfl rfl)
theorem dL_law_321 : decode cL_law 321 = .ok (.aload_n 1, 1) := dk_43 (dk_at dksL_law_10 8 rfl rfl)
theorem dL_law_322 : decode cL_law 322 = .ok (.invokevirtual 96, 3) := dk_182 0 96 (dk_at dksL_law_10 9 rfl rfl)
theorem dL_law_325 : decode cL_law 325 = .ok (.aload_n 2, 1) := dk_44 (dk_at dksL_law_10 12 rfl rfl)
theorem dL_law_326 : decode cL_law 326 = .ok (.invokevirtual 99, 3) := dk_182 0 99 (dk_at dksL_law_10 13 rfl rfl)
theorem dL_law_329 : decode cL_law 329 = .ok (.if_icmp .eq 1108, 3) := dk_159 4 84 (dk_at dksL_law_10 16 rfl rfl)
theorem dL_law_332 : decode cL_law 332 = .ok (.iconst 0, 1) := dk_3 (dk_at dksL_law_10 19 rfl rfl)
theorem dL_law_333 : decode cL_law 333 = .ok (.ireturn, 1) := dk_172 (dk_at dksL_law_10 20 rfl rfl)
theorem dL_law_334 : decode cL_law 334 = .ok (.aload_n 1, 1) := dk_43 (dk_at dksL_law_10 21 rfl rfl)
theorem dL_law_335 : decode cL_law 335 = .ok (.aload_n 0, 1) := dk_42 (dk_at dksL_law_10 22 rfl rfl)
theorem dL_law_336 : decode cL_law 336 = .ok (.iload 4, 2) := dk_21 4 (dk_at dksL_law_11 0 rfl rfl)
theorem dL_law_338 : decode cL_law 338 = .ok (.iconst 1, 1) := dk_4 (dk_at dksL_law_11 2 rfl rfl)
theorem dL_law_339 : decode cL_law 339 = .ok (.iadd, 1) := dk_96 (dk_at dksL_law_11 3 rfl rfl)
theorem dL_law_340 : decode cL_law 340 = .ok (.iaload, 1) := dk_46 (dk_at dksL_law_11 4 rfl rfl)
theorem dL_law_341 : decode cL_law 341 = .ok (.aload_n 3, 1) := dk_45 (dk_at dksL_law_11 5 rfl rfl)
theorem dL_law_342 : decode cL_law 342 = .ok (.invokestatic 100, 3) := dk_184 0 100 (dk_at dksL_law_11 6 rfl rfl)
theorem dL_law_345 : decode cL_law 345 = .ok (.istore 5, 2) := dk_54 5 (dk_at dksL_law_11 9 rfl rfl)
theorem dL_law_347 : decode cL_law 347 = .ok (.aload_n 2, 1) := dk_44 (dk_at dksL_law_11 11 rfl rfl)
theorem dL_law_348 : decode cL_law 348 = .ok (.aload_n 0, 1) := dk_42 (dk_at dksL_law_11 12 rfl rfl)
theorem dL_law_349 : decode cL_law 349 = .ok (.iload 4, 2) := dk_21 4 (dk_at dksL_law_11 13 rfl rfl)
theorem dL_law_351 : decode cL_law 351 = .ok (.iconst 1, 1) := dk_4 (dk_at dksL_law_11 15 rfl rfl)
theorem dL_law_352 : decode cL_law 352 = .ok (.iadd, 1) := dk_96 (dk_at dksL_law_11 16 rfl rfl)
theorem dL_law_353 : decode cL_law 353 = .ok (.iaload, 1) := dk_46 (dk_at dksL_law_11 17 rfl rfl)
theorem dL_law_354 : decode cL_law 354 = .ok (.invokevirtual 102, 3) := dk_182 0 102 (dk_at dksL_law_11 18 rfl rfl)
theorem dL_law_357 : decode cL_law 357 = .ok (.istore 6, 2) := dk_54 6 (dk_at dksL_law_11 21 rfl rfl)
theorem dL_law_359 : decode cL_law 359 = .ok (.aload_n 2, 1) := dk_44 (dk_at dksL_law_11 23 rfl rfl)
theorem dL_law_360 : decode cL_law 360 = .ok (.invokevirtual 85, 3) := dk_182 0 85 (dk_at dksL_law_12 0 rfl rfl)
theorem dL_law_363 : decode cL_law 363 = .ok (.iload 5, 2) := dk_21 5 (dk_at dksL_law_12 3 rfl rfl)
theorem dL_law_365 : decode cL_law 365 = .ok (.if_icmp .eq 5, 3) := dk_159 0 5 (dk_at dksL_law_12 5 rfl rfl)
theorem dL_law_368 : decode cL_law 368 = .ok (.iconst 0, 1) := dk_3 (dk_at dksL_law_12 8 rfl rfl)
theorem dL_law_369 : decode cL_law 369 = .ok (.ireturn, 1) := dk_172 (dk_at dksL_law_12 9 rfl rfl)
theorem dL_law_370 : decode cL_law 370 = .ok (.iload 5, 2) := dk_21 5 (dk_at dksL_law_12 10 rfl rfl)
theorem dL_law_372 : decode cL_law 372 = .ok (.ifCond .ne 15, 3) := dk_154 0 15 (dk_at dksL_law_12 12 rfl rfl)
theorem dL_law_375 : decode cL_law 375 = .ok (.aload_n 3, 1) := dk_45 (dk_at dksL_law_12 15 rfl rfl)
theorem dL_law_376 : decode cL_law 376 = .ok (.iconst 0, 1) := dk_3 (dk_at dksL_law_12 16 rfl rfl)
theorem dL_law_377 : decode cL_law 377 = .ok (.laload, 1) := dk_47 (dk_at dksL_law_12 17 rfl rfl)
theorem dL_law_378 : decode cL_law 378 = .ok (.iload 6, 2) := dk_21 6 (dk_at dksL_law_12 18 rfl rfl)
theorem dL_law_380 : decode cL_law 380 = .ok (.i2l, 1) := dk_133 (dk_at dksL_law_12 20 rfl rfl)
theorem dL_law_381 : decode cL_law 381 = .ok (.lcmp, 1) := dk_148 (dk_at dksL_law_12 21 rfl rfl)
theorem dL_law_382 : decode cL_law 382 = .ok (.ifCond .eq 5, 3) := dk_153 0 5 (dk_at dksL_law_13 0 rfl rfl)
theorem dL_law_385 : decode cL_law 385 = .ok (.iconst 0, 1) := dk_3 (dk_at dksL_law_13 3 rfl rfl)
theorem dL_law_386 : decode cL_law 386 = .ok (.ireturn, 1) := dk_172 (dk_at dksL_law_13 4 rfl rfl)
theorem dL_law_387 : decode cL_law 387 = .ok (.goto 1050, 3) := dk_167 4 26 (dk_at dksL_law_13 5 rfl rfl)
theorem dL_law_390 : decode cL_law 390 = .ok (.aload_n 1, 1) := dk_43 (dk_at dksL_law_13 8 rfl rfl)
theorem dL_law_391 : decode cL_law 391 = .ok (.aload_n 0, 1) := dk_42 (dk_at dksL_law_13 9 rfl rfl)
theorem dL_law_392 : decode cL_law 392 = .ok (.iload 4, 2) := dk_21 4 (dk_at dksL_law_13 10 rfl rfl)
theorem dL_law_394 : decode cL_law 394 = .ok (.iconst 1, 1) := dk_4 (dk_at dksL_law_13 12 rfl rfl)
theorem dL_law_395 : decode cL_law 395 = .ok (.iadd, 1) := dk_96 (dk_at dksL_law_13 13 rfl rfl)
theorem dL_law_396 : decode cL_law 396 = .ok (.iaload, 1) := dk_46 (dk_at dksL_law_13 14 rfl rfl)
theorem dL_law_397 : decode cL_law 397 = .ok (.aload_n 0, 1) := dk_42 (dk_at dksL_law_13 15 rfl rfl)
theorem dL_law_398 : decode cL_law 398 = .ok (.iload 4, 2) := dk_21 4 (dk_at dksL_law_13 16 rfl rfl)
theorem dL_law_400 : decode cL_law 400 = .ok (.iconst 2, 1) := dk_5 (dk_at dksL_law_13 18 rfl rfl)
theorem dL_law_401 : decode cL_law 401 = .ok (.iadd, 1) := dk_96 (dk_at dksL_law_13 19 rfl rfl)
theorem dL_law_402 : decode cL_law 402 = .ok (.iaload, 1) := dk_46 (dk_at dksL_law_13 20 rfl rfl)
theorem dL_law_403 : decode cL_law 403 = .ok (.aload_n 3, 1) := dk_45 (dk_at dksL_law_13 21 rfl rfl)
theorem dL_law_404 : decode cL_law 404 = .ok (.invokestatic 103, 3) := dk_184 0 103 (dk_at dksL_law_14 0 rfl rfl)
theorem dL_law_407 : decode cL_law 407 = .ok (.istore 5, 2) := dk_54 5 (dk_at dksL_law_14 3 rfl rfl)
theorem dL_law_409 : decode cL_law 409 = .ok (.aload_n 2, 1) := dk_44 (dk_at dksL_law_14 5 rfl rfl)
theorem dL_law_410 : decode cL_law 410 = .ok (.aload_n 0, 1) := dk_42 (dk_at dksL_law_14 6 rfl rfl)
theorem dL_law_411 : decode cL_law 411 = .ok (.iload 4, 2) := dk_21 4 (dk_at dksL_law_14 7 rfl rfl)
theorem dL_law_413 : decode cL_law 413 = .ok (.iconst 1, 1) := dk_4 (dk_at dksL_law_14 9 rfl rfl)
theorem dL_law_414 : decode cL_law 414 = .ok (.iadd, 1) := dk_96 (dk_at dksL_law_14 10 rfl rfl)
theorem dL_law_415 : decode cL_law 415 = .ok (.iaload, 1) := dk_46 (dk_at dksL_law_14 11 rfl rfl)
theorem dL_law_416 : decode cL_law 416 = .ok (.aload_n 0, 1) := dk_42 (dk_at dksL_law_14 12 rfl rfl)
theorem dL_law_417 : decode cL_law 417 = .ok (.iload 4, 2) := dk_21 4 (dk_at dksL_law_14 13 rfl rfl)
theorem dL_law_419 : decode cL_law 419 = .ok (.iconst 2, 1) := dk_5 (dk_at dksL_law_14 15 rfl rfl)
theorem dL_law_420 : decode cL_law 420 = .ok (.iadd, 1) := dk_96 (dk_at dksL_law_14 16 rfl rfl)
theorem dL_law_421 : decode cL_law 421 = .ok (.iaload, 1) := dk_46 (dk_at dksL_law_14 17 rfl rfl)
theorem dL_law_422 : decode cL_law 422 = .ok (.invokevirtual 106, 3) := dk_182 0 106 (dk_at dksL_law_14 18 rfl rfl)
theorem dL_law_425 : decode cL_law 425 = .ok (.istore 6, 2) := dk_54 6 (dk_at dksL_law_14 21 rfl rfl)
theorem dL_law_427 : decode cL_law 427 = .ok (.aload_n 2, 1) := dk_44 (dk_at dksL_law_14 23 rfl rfl)
theorem dL_law_428 : decode cL_law 428 = .ok (.invokevirtual 85, 3) := dk_182 0 85 (dk_at dksL_law_15 0 rfl rfl)
theorem dL_law_431 : decode cL_law 431 = .ok (.iload 5, 2) := dk_21 5 (dk_at dksL_law_15 3 rfl rfl)
theorem dL_law_433 : decode cL_law 433 = .ok (.if_icmp .eq 5, 3) := dk_159 0 5 (dk_at dksL_law_15 5 rfl rfl)
theorem dL_law_436 : decode cL_law 436 = .ok (.iconst 0, 1) := dk_3 (dk_at dksL_law_15 8 rfl rfl)
theorem dL_law_437 : decode cL_law 437 = .ok (.ireturn, 1) := dk_172 (dk_at dksL_law_15 9 rfl rfl)
theorem dL_law_438 : decode cL_law 438 = .ok (.iload 5, 2) := dk_21 5 (dk_at dksL_law_15 10 rfl rfl)
theorem dL_law_440 : decode cL_law 440 = .ok (.ifCond .ne 15, 3) := dk_154 0 15 (dk_at dksL_law_15 12 rfl rfl)
theorem dL_law_443 : decode cL_law 443 = .ok (.aload_n 3, 1) := dk_45 (dk_at dksL_law_15 15 rfl rfl)
theorem dL_law_444 : decode cL_law 444 = .ok (.iconst 0, 1) := dk_3 (dk_at dksL_law_15 16 rfl rfl)
theorem dL_law_445 : decode cL_law 445 = .ok (.laload, 1) := dk_47 (dk_at dksL_law_15 17 rfl rfl)
theorem dL_law_446 : decode cL_law 446 = .ok (.iload 6, 2) := dk_21 6 (dk_at dksL_law_15 18 rfl rfl)
theorem dL_law_448 : decode cL_law 448 = .ok (.i2l, 1) := dk_133 (dk_at dksL_law_15 20 rfl rfl)
theorem dL_law_449 : decode cL_law 449 = .ok (.lcmp, 1) := dk_148 (dk_at dksL_law_15 21 rfl rfl)
theorem dL_law_450 : decode cL_law 450 = .ok (.ifCond .eq 5, 3) := dk_153 0 5 (dk_at dksL_law_16 0 rfl rfl)
theorem dL_law_453 : decode cL_law 453 = .ok (.iconst 0, 1) := dk_3 (dk_at dksL_law_16 3 rfl rfl)
theorem dL_law_454 : decode cL_law 454 = .ok (.ireturn, 1) := dk_172 (dk_at dksL_law_16 4 rfl rfl)
theorem dL_law_455 : decode cL_law 455 = .ok (.goto 982, 3) := dk_167 3 214 (dk_at dksL_law_16 5 rfl rfl)
theorem dL_law_458 : decode cL_law 458 = .ok (.aload_n 1, 1) := dk_43 (dk_at dksL_law_16 8 rfl rfl)
theorem dL_law_459 : decode cL_law 459 = .ok (.aload_n 0, 1) := dk_42 (dk_at dksL_law_16 9 rfl rfl)
theorem dL_law_460 : decode cL_law 460 = .ok (.iload 4, 2) := dk_21 4 (dk_at dksL_law_16 10 rfl rfl)
theorem dL_law_462 : decode cL_law 462 = .ok (.iconst 1, 1) := dk_4 (dk_at dksL_law_16 12 rfl rfl)
theorem dL_law_463 : decode cL_law 463 = .ok (.iadd, 1) := dk_96 (dk_at dksL_law_16 13 rfl rfl)
theorem dL_law_464 : decode cL_law 464 = .ok (.iaload, 1) := dk_46 (dk_at dksL_law_16 14 rfl rfl)
theorem dL_law_465 : decode cL_law 465 = .ok (.aload_n 0, 1) := dk_42 (dk_at dksL_law_16 15 rfl rfl)
theorem dL_law_466 : decode cL_law 466 = .ok (.iload 4, 2) := dk_21 4 (dk_at dksL_law_16 16 rfl rfl)
theorem dL_law_468 : decode cL_law 468 = .ok (.iconst 2, 1) := dk_5 (dk_at dksL_law_16 18 rfl rfl)
theorem dL_law_469 : decode cL_law 469 = .ok (.iadd, 1) := dk_96 (dk_at dksL_law_16 19 rfl rfl)
theorem dL_law_470 : decode cL_law 470 = .ok (.iaload, 1) := dk_46 (dk_at dksL_law_16 20 rfl rfl)
theorem dL_law_471 : decode cL_law 471 = .ok (.aload_n 3, 1) := dk_45 (dk_at dksL_law_16 21 rfl rfl)
theorem dL_law_472 : decode cL_law 472 = .ok (.invokestatic 107, 3) := dk_184 0 107 (dk_at dksL_law_17 0 rfl rfl)
theorem dL_law_475 : decode cL_law 475 = .ok (.istore 5, 2) := dk_54 5 (dk_at dksL_law_17 3 rfl rfl)
theorem dL_law_477 : decode cL_law 477 = .ok (.aload_n 2, 1) := dk_44 (dk_at dksL_law_17 5 rfl rfl)
theorem dL_law_478 : decode cL_law 478 = .ok (.aload_n 0, 1) := dk_42 (dk_at dksL_law_17 6 rfl rfl)
theorem dL_law_479 : decode cL_law 479 = .ok (.iload 4, 2) := dk_21 4 (dk_at dksL_law_17 7 rfl rfl)
theorem dL_law_481 : decode cL_law 481 = .ok (.iconst 1, 1) := dk_4 (dk_at dksL_law_17 9 rfl rfl)
theorem dL_law_482 : decode cL_law 482 = .ok (.iadd, 1) := dk_96 (dk_at dksL_law_17 10 rfl rfl)
theorem dL_law_483 : decode cL_law 483 = .ok (.iaload, 1) := dk_46 (dk_at dksL_law_17 11 rfl rfl)
theorem dL_law_484 : decode cL_law 484 = .ok (.aload_n 0, 1) := dk_42 (dk_at dksL_law_17 12 rfl rfl)
theorem dL_law_485 : decode cL_law 485 = .ok (.iload 4, 2) := dk_21 4 (dk_at dksL_law_17 13 rfl rfl)
theorem dL_law_487 : decode cL_law 487 = .ok (.iconst 2, 1) := dk_5 (dk_at dksL_law_17 15 rfl rfl)
theorem dL_law_488 : decode cL_law 488 = .ok (.iadd, 1) := dk_96 (dk_at dksL_law_17 16 rfl rfl)
theorem dL_law_489 : decode cL_law 489 = .ok (.iaload, 1) := dk_46 (dk_at dksL_law_17 17 rfl rfl)
theorem dL_law_490 : decode cL_law 490 = .ok (.invokevirtual 109, 3) := dk_182 0 109 (dk_at dksL_law_17 18 rfl rfl)
theorem dL_law_493 : decode cL_law 493 = .ok (.istore 6, 2) := dk_54 6 (dk_at dksL_law_17 21 rfl rfl)
theorem dL_law_495 : decode cL_law 495 = .ok (.aload_n 2, 1) := dk_44 (dk_at dksL_law_17 23 rfl rfl)
theorem dL_law_496 : decode cL_law 496 = .ok (.invokevirtual 85, 3) := dk_182 0 85 (dk_at dksL_law_18 0 rfl rfl)
theorem dL_law_499 : decode cL_law 499 = .ok (.iload 5, 2) := dk_21 5 (dk_at dksL_law_18 3 rfl rfl)
theorem dL_law_501 : decode cL_law 501 = .ok (.if_icmp .eq 5, 3) := dk_159 0 5 (dk_at dksL_law_18 5 rfl rfl)
theorem dL_law_504 : decode cL_law 504 = .ok (.iconst 0, 1) := dk_3 (dk_at dksL_law_18 8 rfl rfl)
theorem dL_law_505 : decode cL_law 505 = .ok (.ireturn, 1) := dk_172 (dk_at dksL_law_18 9 rfl rfl)
theorem dL_law_506 : decode cL_law 506 = .ok (.iload 5, 2) := dk_21 5 (dk_at dksL_law_18 10 rfl rfl)
theorem dL_law_508 : decode cL_law 508 = .ok (.ifCond .ne 15, 3) := dk_154 0 15 (dk_at dksL_law_18 12 rfl rfl)
theorem dL_law_511 : decode cL_law 511 = .ok (.aload_n 3, 1) := dk_45 (dk_at dksL_law_18 15 rfl rfl)
theorem dL_law_512 : decode cL_law 512 = .ok (.iconst 0, 1) := dk_3 (dk_at dksL_law_18 16 rfl rfl)
theorem dL_law_513 : decode cL_law 513 = .ok (.laload, 1) := dk_47 (dk_at dksL_law_18 17 rfl rfl)
theorem dL_law_514 : decode cL_law 514 = .ok (.iload 6, 2) := dk_21 6 (dk_at dksL_law_18 18 rfl rfl)
theorem dL_law_516 : decode cL_law 516 = .ok (.i2l, 1) := dk_133 (dk_at dksL_law_18 20 rfl rfl)
theorem dL_law_517 : decode cL_law 517 = .ok (.lcmp, 1) := dk_148 (dk_at dksL_law_18 21 rfl rfl)
theorem dL_law_518 : decode cL_law 518 = .ok (.ifCond .eq 5, 3) := dk_153 0 5 (dk_at dksL_law_19 0 rfl rfl)
theorem dL_law_521 : decode cL_law 521 = .ok (.iconst 0, 1) := dk_3 (dk_at dksL_law_19 3 rfl rfl)
theorem dL_law_522 : decode cL_law 522 = .ok (.ireturn, 1) := dk_172 (dk_at dksL_law_19 4 rfl rfl)
theorem dL_law_523 : decode cL_law 523 = .ok (.goto 914, 3) := dk_167 3 146 (dk_at dksL_law_19 5 rfl rfl)
theorem dL_law_526 : decode cL_law 526 = .ok (.aload_n 1, 1) := dk_43 (dk_at dksL_law_19 8 rfl rfl)
theorem dL_law_527 : decode cL_law 527 = .ok (.aload_n 0, 1) := dk_42 (dk_at dksL_law_19 9 rfl rfl)
theorem dL_law_528 : decode cL_law 528 = .ok (.iload 4, 2) := dk_21 4 (dk_at dksL_law_19 10 rfl rfl)
theorem dL_law_530 : decode cL_law 530 = .ok (.iconst 1, 1) := dk_4 (dk_at dksL_law_19 12 rfl rfl)
theorem dL_law_531 : decode cL_law 531 = .ok (.iadd, 1) := dk_96 (dk_at dksL_law_19 13 rfl rfl)
theorem dL_law_532 : decode cL_law 532 = .ok (.iaload, 1) := dk_46 (dk_at dksL_law_19 14 rfl rfl)
theorem dL_law_533 : decode cL_law 533 = .ok (.aload_n 0, 1) := dk_42 (dk_at dksL_law_19 15 rfl rfl)
theorem dL_law_534 : decode cL_law 534 = .ok (.iload 4, 2) := dk_21 4 (dk_at dksL_law_19 16 rfl rfl)
theorem dL_law_536 : decode cL_law 536 = .ok (.iconst 2, 1) := dk_5 (dk_at dksL_law_19 18 rfl rfl)
theorem dL_law_537 : decode cL_law 537 = .ok (.iadd, 1) := dk_96 (dk_at dksL_law_19 19 rfl rfl)
theorem dL_law_538 : decode cL_law 538 = .ok (.iaload, 1) := dk_46 (dk_at dksL_law_19 20 rfl rfl)
theorem dL_law_539 : decode cL_law 539 = .ok (.aload_n 3, 1) := dk_45 (dk_at dksL_law_19 21 rfl rfl)
theorem dL_law_540 : decode cL_law 540 = .ok (.invokestatic 110, 3) := dk_184 0 110 (dk_at dksL_law_20 0 rfl rfl)
theorem dL_law_543 : decode cL_law 543 = .ok (.istore 5, 2) := dk_54 5 (dk_at dksL_law_20 3 rfl rfl)
theorem dL_law_545 : decode cL_law 545 = .ok (.aload_n 2, 1) := dk_44 (dk_at dksL_law_20 5 rfl rfl)
theorem dL_law_546 : decode cL_law 546 = .ok (.aload_n 0, 1) := dk_42 (dk_at dksL_law_20 6 rfl rfl)
theorem dL_law_547 : decode cL_law 547 = .ok (.iload 4, 2) := dk_21 4 (dk_at dksL_law_20 7 rfl rfl)
theorem dL_law_549 : decode cL_law 549 = .ok (.iconst 1, 1) := dk_4 (dk_at dksL_law_20 9 rfl rfl)
theorem dL_law_550 : decode cL_law 550 = .ok (.iadd, 1) := dk_96 (dk_at dksL_law_20 10 rfl rfl)
theorem dL_law_551 : decode cL_law 551 = .ok (.iaload, 1) := dk_46 (dk_at dksL_law_20 11 rfl rfl)
theorem dL_law_552 : decode cL_law 552 = .ok (.aload_n 0, 1) := dk_42 (dk_at dksL_law_20 12 rfl rfl)
theorem dL_law_553 : decode cL_law 553 = .ok (.iload 4, 2) := dk_21 4 (dk_at dksL_law_20 13 rfl rfl)
theorem dL_law_555 : decode cL_law 555 = .ok (.iconst 2, 1) := dk_5 (dk_at dksL_law_20 15 rfl rfl)
theorem dL_law_556 : decode cL_law 556 = .ok (.iadd, 1) := dk_96 (dk_at dksL_law_20 16 rfl rfl)
theorem dL_law_557 : decode cL_law 557 = .ok (.iaload, 1) := dk_46 (dk_at dksL_law_20 17 rfl rfl)
theorem dL_law_558 : decode cL_law 558 = .ok (.invokevirtual 112, 3) := dk_182 0 112 (dk_at dksL_law_20 18 rfl rfl)
theorem dL_law_561 : decode cL_law 561 = .ok (.istore 6, 2) := dk_54 6 (dk_at dksL_law_20 21 rfl rfl)
theorem dL_law_563 : decode cL_law 563 = .ok (.aload_n 2, 1) := dk_44 (dk_at dksL_law_20 23 rfl rfl)
theorem dL_law_564 : decode cL_law 564 = .ok (.invokevirtual 85, 3) := dk_182 0 85 (dk_at dksL_law_21 0 rfl rfl)
theorem dL_law_567 : decode cL_law 567 = .ok (.iload 5, 2) := dk_21 5 (dk_at dksL_law_21 3 rfl rfl)
theorem dL_law_569 : decode cL_law 569 = .ok (.if_icmp .eq 5, 3) := dk_159 0 5 (dk_at dksL_law_21 5 rfl rfl)
theorem dL_law_572 : decode cL_law 572 = .ok (.iconst 0, 1) := dk_3 (dk_at dksL_law_21 8 rfl rfl)
theorem dL_law_573 : decode cL_law 573 = .ok (.ireturn, 1) := dk_172 (dk_at dksL_law_21 9 rfl rfl)
theorem dL_law_574 : decode cL_law 574 = .ok (.iload 5, 2) := dk_21 5 (dk_at dksL_law_21 10 rfl rfl)
theorem dL_law_576 : decode cL_law 576 = .ok (.ifCond .ne 15, 3) := dk_154 0 15 (dk_at dksL_law_21 12 rfl rfl)
theorem dL_law_579 : decode cL_law 579 = .ok (.aload_n 3, 1) := dk_45 (dk_at dksL_law_21 15 rfl rfl)
theorem dL_law_580 : decode cL_law 580 = .ok (.iconst 0, 1) := dk_3 (dk_at dksL_law_21 16 rfl rfl)
theorem dL_law_581 : decode cL_law 581 = .ok (.laload, 1) := dk_47 (dk_at dksL_law_21 17 rfl rfl)
theorem dL_law_582 : decode cL_law 582 = .ok (.iload 6, 2) := dk_21 6 (dk_at dksL_law_21 18 rfl rfl)
theorem dL_law_584 : decode cL_law 584 = .ok (.i2l, 1) := dk_133 (dk_at dksL_law_21 20 rfl rfl)
theorem dL_law_585 : decode cL_law 585 = .ok (.lcmp, 1) := dk_148 (dk_at dksL_law_21 21 rfl rfl)
theorem dL_law_586 : decode cL_law 586 = .ok (.ifCond .eq 5, 3) := dk_153 0 5 (dk_at dksL_law_22 0 rfl rfl)
theorem dL_law_589 : decode cL_law 589 = .ok (.iconst 0, 1) := dk_3 (dk_at dksL_law_22 3 rfl rfl)
theorem dL_law_590 : decode cL_law 590 = .ok (.ireturn, 1) := dk_172 (dk_at dksL_law_22 4 rfl rfl)
theorem dL_law_591 : decode cL_law 591 = .ok (.goto 846, 3) := dk_167 3 78 (dk_at dksL_law_22 5 rfl rfl)
theorem dL_law_594 : decode cL_law 594 = .ok (.aload_n 1, 1) := dk_43 (dk_at dksL_law_22 8 rfl rfl)
theorem dL_law_595 : decode cL_law 595 = .ok (.aload_n 0, 1) := dk_42 (dk_at dksL_law_22 9 rfl rfl)
theorem dL_law_596 : decode cL_law 596 = .ok (.iload 4, 2) := dk_21 4 (dk_at dksL_law_22 10 rfl rfl)
theorem dL_law_598 : decode cL_law 598 = .ok (.iconst 1, 1) := dk_4 (dk_at dksL_law_22 12 rfl rfl)
theorem dL_law_599 : decode cL_law 599 = .ok (.iadd, 1) := dk_96 (dk_at dksL_law_22 13 rfl rfl)
theorem dL_law_600 : decode cL_law 600 = .ok (.iaload, 1) := dk_46 (dk_at dksL_law_22 14 rfl rfl)
theorem dL_law_601 : decode cL_law 601 = .ok (.aload_n 0, 1) := dk_42 (dk_at dksL_law_22 15 rfl rfl)
theorem dL_law_602 : decode cL_law 602 = .ok (.iload 4, 2) := dk_21 4 (dk_at dksL_law_22 16 rfl rfl)
theorem dL_law_604 : decode cL_law 604 = .ok (.iconst 2, 1) := dk_5 (dk_at dksL_law_22 18 rfl rfl)
theorem dL_law_605 : decode cL_law 605 = .ok (.iadd, 1) := dk_96 (dk_at dksL_law_22 19 rfl rfl)
theorem dL_law_606 : decode cL_law 606 = .ok (.iaload, 1) := dk_46 (dk_at dksL_law_22 20 rfl rfl)
theorem dL_law_607 : decode cL_law 607 = .ok (.aload_n 3, 1) := dk_45 (dk_at dksL_law_22 21 rfl rfl)
theorem dL_law_608 : decode cL_law 608 = .ok (.invokestatic 113, 3) := dk_184 0 113 (dk_at dksL_law_23 0 rfl rfl)
theorem dL_law_611 : decode cL_law 611 = .ok (.istore 5, 2) := dk_54 5 (dk_at dksL_law_23 3 rfl rfl)
theorem dL_law_613 : decode cL_law 613 = .ok (.aload_n 2, 1) := dk_44 (dk_at dksL_law_23 5 rfl rfl)
theorem dL_law_614 : decode cL_law 614 = .ok (.aload_n 0, 1) := dk_42 (dk_at dksL_law_23 6 rfl rfl)
theorem dL_law_615 : decode cL_law 615 = .ok (.iload 4, 2) := dk_21 4 (dk_at dksL_law_23 7 rfl rfl)
theorem dL_law_617 : decode cL_law 617 = .ok (.iconst 1, 1) := dk_4 (dk_at dksL_law_23 9 rfl rfl)
theorem dL_law_618 : decode cL_law 618 = .ok (.iadd, 1) := dk_96 (dk_at dksL_law_23 10 rfl rfl)
theorem dL_law_619 : decode cL_law 619 = .ok (.iaload, 1) := dk_46 (dk_at dksL_law_23 11 rfl rfl)
theorem dL_law_620 : decode cL_law 620 = .ok (.aload_n 0, 1) := dk_42 (dk_at dksL_law_23 12 rfl rfl)
theorem dL_law_621 : decode cL_law 621 = .ok (.iload 4, 2) := dk_21 4 (dk_at dksL_law_23 13 rfl rfl)
theorem dL_law_623 : decode cL_law 623 = .ok (.iconst 2, 1) := dk_5 (dk_at dksL_law_23 15 rfl rfl)
theorem dL_law_624 : decode cL_law 624 = .ok (.iadd, 1) := dk_96 (dk_at dksL_law_23 16 rfl rfl)
theorem dL_law_625 : decode cL_law 625 = .ok (.iaload, 1) := dk_46 (dk_at dksL_law_23 17 rfl rfl)
theorem dL_law_626 : decode cL_law 626 = .ok (.invokevirtual 115, 3) := dk_182 0 115 (dk_at dksL_law_23 18 rfl rfl)
theorem dL_law_629 : decode cL_law 629 = .ok (.istore 6, 2) := dk_54 6 (dk_at dksL_law_23 21 rfl rfl)
theorem dL_law_631 : decode cL_law 631 = .ok (.aload_n 2, 1) := dk_44 (dk_at dksL_law_23 23 rfl rfl)
theorem dL_law_632 : decode cL_law 632 = .ok (.invokevirtual 85, 3) := dk_182 0 85 (dk_at dksL_law_24 0 rfl rfl)
theorem dL_law_635 : decode cL_law 635 = .ok (.iload 5, 2) := dk_21 5 (dk_at dksL_law_24 3 rfl rfl)
theorem dL_law_637 : decode cL_law 637 = .ok (.if_icmp .eq 5, 3) := dk_159 0 5 (dk_at dksL_law_24 5 rfl rfl)
theorem dL_law_640 : decode cL_law 640 = .ok (.iconst 0, 1) := dk_3 (dk_at dksL_law_24 8 rfl rfl)
theorem dL_law_641 : decode cL_law 641 = .ok (.ireturn, 1) := dk_172 (dk_at dksL_law_24 9 rfl rfl)
theorem dL_law_642 : decode cL_law 642 = .ok (.iload 5, 2) := dk_21 5 (dk_at dksL_law_24 10 rfl rfl)
theorem dL_law_644 : decode cL_law 644 = .ok (.ifCond .ne 15, 3) := dk_154 0 15 (dk_at dksL_law_24 12 rfl rfl)
theorem dL_law_647 : decode cL_law 647 = .ok (.aload_n 3, 1) := dk_45 (dk_at dksL_law_24 15 rfl rfl)
theorem dL_law_648 : decode cL_law 648 = .ok (.iconst 0, 1) := dk_3 (dk_at dksL_law_24 16 rfl rfl)
theorem dL_law_649 : decode cL_law 649 = .ok (.laload, 1) := dk_47 (dk_at dksL_law_24 17 rfl rfl)
theorem dL_law_650 : decode cL_law 650 = .ok (.iload 6, 2) := dk_21 6 (dk_at dksL_law_24 18 rfl rfl)
theorem dL_law_652 : decode cL_law 652 = .ok (.i2l, 1) := dk_133 (dk_at dksL_law_24 20 rfl rfl)
theorem dL_law_653 : decode cL_law 653 = .ok (.lcmp, 1) := dk_148 (dk_at dksL_law_24 21 rfl rfl)
theorem dL_law_654 : decode cL_law 654 = .ok (.ifCond .eq 5, 3) := dk_153 0 5 (dk_at dksL_law_25 0 rfl rfl)
theorem dL_law_657 : decode cL_law 657 = .ok (.iconst 0, 1) := dk_3 (dk_at dksL_law_25 3 rfl rfl)
theorem dL_law_658 : decode cL_law 658 = .ok (.ireturn, 1) := dk_172 (dk_at dksL_law_25 4 rfl rfl)
theorem dL_law_659 : decode cL_law 659 = .ok (.goto 778, 3) := dk_167 3 10 (dk_at dksL_law_25 5 rfl rfl)
theorem dL_law_662 : decode cL_law 662 = .ok (.aload_n 1, 1) := dk_43 (dk_at dksL_law_25 8 rfl rfl)
theorem dL_law_663 : decode cL_law 663 = .ok (.aload_n 0, 1) := dk_42 (dk_at dksL_law_25 9 rfl rfl)
theorem dL_law_664 : decode cL_law 664 = .ok (.iload 4, 2) := dk_21 4 (dk_at dksL_law_25 10 rfl rfl)
theorem dL_law_666 : decode cL_law 666 = .ok (.iconst 1, 1) := dk_4 (dk_at dksL_law_25 12 rfl rfl)
theorem dL_law_667 : decode cL_law 667 = .ok (.iadd, 1) := dk_96 (dk_at dksL_law_25 13 rfl rfl)
theorem dL_law_668 : decode cL_law 668 = .ok (.iaload, 1) := dk_46 (dk_at dksL_law_25 14 rfl rfl)
theorem dL_law_669 : decode cL_law 669 = .ok (.aload_n 0, 1) := dk_42 (dk_at dksL_law_25 15 rfl rfl)
theorem dL_law_670 : decode cL_law 670 = .ok (.iload 4, 2) := dk_21 4 (dk_at dksL_law_25 16 rfl rfl)
theorem dL_law_672 : decode cL_law 672 = .ok (.iconst 2, 1) := dk_5 (dk_at dksL_law_25 18 rfl rfl)
theorem dL_law_673 : decode cL_law 673 = .ok (.iadd, 1) := dk_96 (dk_at dksL_law_25 19 rfl rfl)
theorem dL_law_674 : decode cL_law 674 = .ok (.iaload, 1) := dk_46 (dk_at dksL_law_25 20 rfl rfl)
theorem dL_law_675 : decode cL_law 675 = .ok (.aload_n 3, 1) := dk_45 (dk_at dksL_law_25 21 rfl rfl)
theorem dL_law_676 : decode cL_law 676 = .ok (.invokestatic 116, 3) := dk_184 0 116 (dk_at dksL_law_26 0 rfl rfl)
theorem dL_law_679 : decode cL_law 679 = .ok (.istore 5, 2) := dk_54 5 (dk_at dksL_law_26 3 rfl rfl)
theorem dL_law_681 : decode cL_law 681 = .ok (.aload_n 2, 1) := dk_44 (dk_at dksL_law_26 5 rfl rfl)
theorem dL_law_682 : decode cL_law 682 = .ok (.aload_n 0, 1) := dk_42 (dk_at dksL_law_26 6 rfl rfl)
theorem dL_law_683 : decode cL_law 683 = .ok (.iload 4, 2) := dk_21 4 (dk_at dksL_law_26 7 rfl rfl)
theorem dL_law_685 : decode cL_law 685 = .ok (.iconst 1, 1) := dk_4 (dk_at dksL_law_26 9 rfl rfl)
theorem dL_law_686 : decode cL_law 686 = .ok (.iadd, 1) := dk_96 (dk_at dksL_law_26 10 rfl rfl)
theorem dL_law_687 : decode cL_law 687 = .ok (.iaload, 1) := dk_46 (dk_at dksL_law_26 11 rfl rfl)
theorem dL_law_688 : decode cL_law 688 = .ok (.aload_n 0, 1) := dk_42 (dk_at dksL_law_26 12 rfl rfl)
theorem dL_law_689 : decode cL_law 689 = .ok (.iload 4, 2) := dk_21 4 (dk_at dksL_law_26 13 rfl rfl)
theorem dL_law_691 : decode cL_law 691 = .ok (.iconst 2, 1) := dk_5 (dk_at dksL_law_26 15 rfl rfl)
theorem dL_law_692 : decode cL_law 692 = .ok (.iadd, 1) := dk_96 (dk_at dksL_law_26 16 rfl rfl)
theorem dL_law_693 : decode cL_law 693 = .ok (.iaload, 1) := dk_46 (dk_at dksL_law_26 17 rfl rfl)
theorem dL_law_694 : decode cL_law 694 = .ok (.invokevirtual 118, 3) := dk_182 0 118 (dk_at dksL_law_26 18 rfl rfl)
theorem dL_law_697 : decode cL_law 697 = .ok (.istore 6, 2) := dk_54 6 (dk_at dksL_law_26 21 rfl rfl)
theorem dL_law_699 : decode cL_law 699 = .ok (.aload_n 2, 1) := dk_44 (dk_at dksL_law_26 23 rfl rfl)
theorem dL_law_700 : decode cL_law 700 = .ok (.invokevirtual 85, 3) := dk_182 0 85 (dk_at dksL_law_27 0 rfl rfl)
theorem dL_law_703 : decode cL_law 703 = .ok (.iload 5, 2) := dk_21 5 (dk_at dksL_law_27 3 rfl rfl)
theorem dL_law_705 : decode cL_law 705 = .ok (.if_icmp .eq 5, 3) := dk_159 0 5 (dk_at dksL_law_27 5 rfl rfl)
theorem dL_law_708 : decode cL_law 708 = .ok (.iconst 0, 1) := dk_3 (dk_at dksL_law_27 8 rfl rfl)
theorem dL_law_709 : decode cL_law 709 = .ok (.ireturn, 1) := dk_172 (dk_at dksL_law_27 9 rfl rfl)
theorem dL_law_710 : decode cL_law 710 = .ok (.iload 5, 2) := dk_21 5 (dk_at dksL_law_27 10 rfl rfl)
theorem dL_law_712 : decode cL_law 712 = .ok (.ifCond .ne 15, 3) := dk_154 0 15 (dk_at dksL_law_27 12 rfl rfl)
theorem dL_law_715 : decode cL_law 715 = .ok (.aload_n 3, 1) := dk_45 (dk_at dksL_law_27 15 rfl rfl)
theorem dL_law_716 : decode cL_law 716 = .ok (.iconst 0, 1) := dk_3 (dk_at dksL_law_27 16 rfl rfl)
theorem dL_law_717 : decode cL_law 717 = .ok (.laload, 1) := dk_47 (dk_at dksL_law_27 17 rfl rfl)
theorem dL_law_718 : decode cL_law 718 = .ok (.iload 6, 2) := dk_21 6 (dk_at dksL_law_27 18 rfl rfl)
theorem dL_law_720 : decode cL_law 720 = .ok (.i2l, 1) := dk_133 (dk_at dksL_law_27 20 rfl rfl)
theorem dL_law_721 : decode cL_law 721 = .ok (.lcmp, 1) := dk_148 (dk_at dksL_law_27 21 rfl rfl)
theorem dL_law_722 : decode cL_law 722 = .ok (.ifCond .eq 5, 3) := dk_153 0 5 (dk_at dksL_law_28 0 rfl rfl)
theorem dL_law_725 : decode cL_law 725 = .ok (.iconst 0, 1) := dk_3 (dk_at dksL_law_28 3 rfl rfl)
theorem dL_law_726 : decode cL_law 726 = .ok (.ireturn, 1) := dk_172 (dk_at dksL_law_28 4 rfl rfl)
theorem dL_law_727 : decode cL_law 727 = .ok (.goto 710, 3) := dk_167 2 198 (dk_at dksL_law_28 5 rfl rfl)
theorem dL_law_730 : decode cL_law 730 = .ok (.aload_n 1, 1) := dk_43 (dk_at dksL_law_28 8 rfl rfl)
theorem dL_law_731 : decode cL_law 731 = .ok (.aload_n 0, 1) := dk_42 (dk_at dksL_law_28 9 rfl rfl)
theorem dL_law_732 : decode cL_law 732 = .ok (.iload 4, 2) := dk_21 4 (dk_at dksL_law_28 10 rfl rfl)
theorem dL_law_734 : decode cL_law 734 = .ok (.iconst 1, 1) := dk_4 (dk_at dksL_law_28 12 rfl rfl)
theorem dL_law_735 : decode cL_law 735 = .ok (.iadd, 1) := dk_96 (dk_at dksL_law_28 13 rfl rfl)
theorem dL_law_736 : decode cL_law 736 = .ok (.iaload, 1) := dk_46 (dk_at dksL_law_28 14 rfl rfl)
theorem dL_law_737 : decode cL_law 737 = .ok (.aload_n 0, 1) := dk_42 (dk_at dksL_law_28 15 rfl rfl)
theorem dL_law_738 : decode cL_law 738 = .ok (.iload 4, 2) := dk_21 4 (dk_at dksL_law_28 16 rfl rfl)
theorem dL_law_740 : decode cL_law 740 = .ok (.iconst 2, 1) := dk_5 (dk_at dksL_law_28 18 rfl rfl)
theorem dL_law_741 : decode cL_law 741 = .ok (.iadd, 1) := dk_96 (dk_at dksL_law_28 19 rfl rfl)
theorem dL_law_742 : decode cL_law 742 = .ok (.iaload, 1) := dk_46 (dk_at dksL_law_28 20 rfl rfl)
theorem dL_law_743 : decode cL_law 743 = .ok (.aload_n 3, 1) := dk_45 (dk_at dksL_law_28 21 rfl rfl)
theorem dL_law_744 : decode cL_law 744 = .ok (.invokestatic 119, 3) := dk_184 0 119 (dk_at dksL_law_29 0 rfl rfl)
theorem dL_law_747 : decode cL_law 747 = .ok (.istore 5, 2) := dk_54 5 (dk_at dksL_law_29 3 rfl rfl)
theorem dL_law_749 : decode cL_law 749 = .ok (.aload_n 2, 1) := dk_44 (dk_at dksL_law_29 5 rfl rfl)
theorem dL_law_750 : decode cL_law 750 = .ok (.aload_n 0, 1) := dk_42 (dk_at dksL_law_29 6 rfl rfl)
theorem dL_law_751 : decode cL_law 751 = .ok (.iload 4, 2) := dk_21 4 (dk_at dksL_law_29 7 rfl rfl)
theorem dL_law_753 : decode cL_law 753 = .ok (.iconst 1, 1) := dk_4 (dk_at dksL_law_29 9 rfl rfl)
theorem dL_law_754 : decode cL_law 754 = .ok (.iadd, 1) := dk_96 (dk_at dksL_law_29 10 rfl rfl)
theorem dL_law_755 : decode cL_law 755 = .ok (.iaload, 1) := dk_46 (dk_at dksL_law_29 11 rfl rfl)
theorem dL_law_756 : decode cL_law 756 = .ok (.aload_n 0, 1) := dk_42 (dk_at dksL_law_29 12 rfl rfl)
theorem dL_law_757 : decode cL_law 757 = .ok (.iload 4, 2) := dk_21 4 (dk_at dksL_law_29 13 rfl rfl)
theorem dL_law_759 : decode cL_law 759 = .ok (.iconst 2, 1) := dk_5 (dk_at dksL_law_29 15 rfl rfl)
theorem dL_law_760 : decode cL_law 760 = .ok (.iadd, 1) := dk_96 (dk_at dksL_law_29 16 rfl rfl)
theorem dL_law_761 : decode cL_law 761 = .ok (.iaload, 1) := dk_46 (dk_at dksL_law_29 17 rfl rfl)
theorem dL_law_762 : decode cL_law 762 = .ok (.invokevirtual 121, 3) := dk_182 0 121 (dk_at dksL_law_29 18 rfl rfl)
theorem dL_law_765 : decode cL_law 765 = .ok (.istore 6, 2) := dk_54 6 (dk_at dksL_law_29 21 rfl rfl)
theorem dL_law_767 : decode cL_law 767 = .ok (.aload_n 2, 1) := dk_44 (dk_at dksL_law_29 23 rfl rfl)
theorem dL_law_768 : decode cL_law 768 = .ok (.invokevirtual 85, 3) := dk_182 0 85 (dk_at dksL_law_30 0 rfl rfl)
theorem dL_law_771 : decode cL_law 771 = .ok (.iload 5, 2) := dk_21 5 (dk_at dksL_law_30 3 rfl rfl)
theorem dL_law_773 : decode cL_law 773 = .ok (.if_icmp .eq 5, 3) := dk_159 0 5 (dk_at dksL_law_30 5 rfl rfl)
theorem dL_law_776 : decode cL_law 776 = .ok (.iconst 0, 1) := dk_3 (dk_at dksL_law_30 8 rfl rfl)
theorem dL_law_777 : decode cL_law 777 = .ok (.ireturn, 1) := dk_172 (dk_at dksL_law_30 9 rfl rfl)
theorem dL_law_778 : decode cL_law 778 = .ok (.iload 5, 2) := dk_21 5 (dk_at dksL_law_30 10 rfl rfl)
theorem dL_law_780 : decode cL_law 780 = .ok (.ifCond .ne 15, 3) := dk_154 0 15 (dk_at dksL_law_30 12 rfl rfl)
theorem dL_law_783 : decode cL_law 783 = .ok (.aload_n 3, 1) := dk_45 (dk_at dksL_law_30 15 rfl rfl)
theorem dL_law_784 : decode cL_law 784 = .ok (.iconst 0, 1) := dk_3 (dk_at dksL_law_30 16 rfl rfl)
theorem dL_law_785 : decode cL_law 785 = .ok (.laload, 1) := dk_47 (dk_at dksL_law_30 17 rfl rfl)
theorem dL_law_786 : decode cL_law 786 = .ok (.iload 6, 2) := dk_21 6 (dk_at dksL_law_30 18 rfl rfl)
theorem dL_law_788 : decode cL_law 788 = .ok (.i2l, 1) := dk_133 (dk_at dksL_law_30 20 rfl rfl)
theorem dL_law_789 : decode cL_law 789 = .ok (.lcmp, 1) := dk_148 (dk_at dksL_law_30 21 rfl rfl)
theorem dL_law_790 : decode cL_law 790 = .ok (.ifCond .eq 5, 3) := dk_153 0 5 (dk_at dksL_law_31 0 rfl rfl)
theorem dL_law_793 : decode cL_law 793 = .ok (.iconst 0, 1) := dk_3 (dk_at dksL_law_31 3 rfl rfl)
theorem dL_law_794 : decode cL_law 794 = .ok (.ireturn, 1) := dk_172 (dk_at dksL_law_31 4 rfl rfl)
theorem dL_law_795 : decode cL_law 795 = .ok (.goto 642, 3) := dk_167 2 130 (dk_at dksL_law_31 5 rfl rfl)
theorem dL_law_798 : decode cL_law 798 = .ok (.aload_n 1, 1) := dk_43 (dk_at dksL_law_31 8 rfl rfl)
theorem dL_law_799 : decode cL_law 799 = .ok (.aload_n 0, 1) := dk_42 (dk_at dksL_law_31 9 rfl rfl)
theorem dL_law_800 : decode cL_law 800 = .ok (.iload 4, 2) := dk_21 4 (dk_at dksL_law_31 10 rfl rfl)
theorem dL_law_802 : decode cL_law 802 = .ok (.iconst 1, 1) := dk_4 (dk_at dksL_law_31 12 rfl rfl)
theorem dL_law_803 : decode cL_law 803 = .ok (.iadd, 1) := dk_96 (dk_at dksL_law_31 13 rfl rfl)
theorem dL_law_804 : decode cL_law 804 = .ok (.iaload, 1) := dk_46 (dk_at dksL_law_31 14 rfl rfl)
theorem dL_law_805 : decode cL_law 805 = .ok (.aload_n 0, 1) := dk_42 (dk_at dksL_law_31 15 rfl rfl)
theorem dL_law_806 : decode cL_law 806 = .ok (.iload 4, 2) := dk_21 4 (dk_at dksL_law_31 16 rfl rfl)
theorem dL_law_808 : decode cL_law 808 = .ok (.iconst 2, 1) := dk_5 (dk_at dksL_law_31 18 rfl rfl)
theorem dL_law_809 : decode cL_law 809 = .ok (.iadd, 1) := dk_96 (dk_at dksL_law_31 19 rfl rfl)
theorem dL_law_810 : decode cL_law 810 = .ok (.iaload, 1) := dk_46 (dk_at dksL_law_31 20 rfl rfl)
theorem dL_law_811 : decode cL_law 811 = .ok (.aload_n 3, 1) := dk_45 (dk_at dksL_law_31 21 rfl rfl)
theorem dL_law_812 : decode cL_law 812 = .ok (.invokestatic 122, 3) := dk_184 0 122 (dk_at dksL_law_32 0 rfl rfl)
theorem dL_law_815 : decode cL_law 815 = .ok (.istore 5, 2) := dk_54 5 (dk_at dksL_law_32 3 rfl rfl)
theorem dL_law_817 : decode cL_law 817 = .ok (.aload_n 2, 1) := dk_44 (dk_at dksL_law_32 5 rfl rfl)
theorem dL_law_818 : decode cL_law 818 = .ok (.aload_n 0, 1) := dk_42 (dk_at dksL_law_32 6 rfl rfl)
theorem dL_law_819 : decode cL_law 819 = .ok (.iload 4, 2) := dk_21 4 (dk_at dksL_law_32 7 rfl rfl)
theorem dL_law_821 : decode cL_law 821 = .ok (.iconst 1, 1) := dk_4 (dk_at dksL_law_32 9 rfl rfl)
theorem dL_law_822 : decode cL_law 822 = .ok (.iadd, 1) := dk_96 (dk_at dksL_law_32 10 rfl rfl)
theorem dL_law_823 : decode cL_law 823 = .ok (.iaload, 1) := dk_46 (dk_at dksL_law_32 11 rfl rfl)
theorem dL_law_824 : decode cL_law 824 = .ok (.aload_n 0, 1) := dk_42 (dk_at dksL_law_32 12 rfl rfl)
theorem dL_law_825 : decode cL_law 825 = .ok (.iload 4, 2) := dk_21 4 (dk_at dksL_law_32 13 rfl rfl)
theorem dL_law_827 : decode cL_law 827 = .ok (.iconst 2, 1) := dk_5 (dk_at dksL_law_32 15 rfl rfl)
theorem dL_law_828 : decode cL_law 828 = .ok (.iadd, 1) := dk_96 (dk_at dksL_law_32 16 rfl rfl)
theorem dL_law_829 : decode cL_law 829 = .ok (.iaload, 1) := dk_46 (dk_at dksL_law_32 17 rfl rfl)
theorem dL_law_830 : decode cL_law 830 = .ok (.invokevirtual 124, 3) := dk_182 0 124 (dk_at dksL_law_32 18 rfl rfl)
theorem dL_law_833 : decode cL_law 833 = .ok (.istore 6, 2) := dk_54 6 (dk_at dksL_law_32 21 rfl rfl)
theorem dL_law_835 : decode cL_law 835 = .ok (.aload_n 2, 1) := dk_44 (dk_at dksL_law_32 23 rfl rfl)
theorem dL_law_836 : decode cL_law 836 = .ok (.invokevirtual 85, 3) := dk_182 0 85 (dk_at dksL_law_33 0 rfl rfl)
theorem dL_law_839 : decode cL_law 839 = .ok (.iload 5, 2) := dk_21 5 (dk_at dksL_law_33 3 rfl rfl)
theorem dL_law_841 : decode cL_law 841 = .ok (.if_icmp .eq 5, 3) := dk_159 0 5 (dk_at dksL_law_33 5 rfl rfl)
theorem dL_law_844 : decode cL_law 844 = .ok (.iconst 0, 1) := dk_3 (dk_at dksL_law_33 8 rfl rfl)
theorem dL_law_845 : decode cL_law 845 = .ok (.ireturn, 1) := dk_172 (dk_at dksL_law_33 9 rfl rfl)
theorem dL_law_846 : decode cL_law 846 = .ok (.iload 5, 2) := dk_21 5 (dk_at dksL_law_33 10 rfl rfl)
theorem dL_law_848 : decode cL_law 848 = .ok (.ifCond .ne 15, 3) := dk_154 0 15 (dk_at dksL_law_33 12 rfl rfl)
theorem dL_law_851 : decode cL_law 851 = .ok (.aload_n 3, 1) := dk_45 (dk_at dksL_law_33 15 rfl rfl)
theorem dL_law_852 : decode cL_law 852 = .ok (.iconst 0, 1) := dk_3 (dk_at dksL_law_33 16 rfl rfl)
theorem dL_law_853 : decode cL_law 853 = .ok (.laload, 1) := dk_47 (dk_at dksL_law_33 17 rfl rfl)
theorem dL_law_854 : decode cL_law 854 = .ok (.iload 6, 2) := dk_21 6 (dk_at dksL_law_33 18 rfl rfl)
theorem dL_law_856 : decode cL_law 856 = .ok (.i2l, 1) := dk_133 (dk_at dksL_law_33 20 rfl rfl)
theorem dL_law_857 : decode cL_law 857 = .ok (.lcmp, 1) := dk_148 (dk_at dksL_law_33 21 rfl rfl)
theorem dL_law_858 : decode cL_law 858 = .ok (.ifCond .eq 5, 3) := dk_153 0 5 (dk_at dksL_law_34 0 rfl rfl)
theorem dL_law_861 : decode cL_law 861 = .ok (.iconst 0, 1) := dk_3 (dk_at dksL_law_34 3 rfl rfl)
theorem dL_law_862 : decode cL_law 862 = .ok (.ireturn, 1) := dk_172 (dk_at dksL_law_34 4 rfl rfl)
theorem dL_law_863 : decode cL_law 863 = .ok (.goto 574, 3) := dk_167 2 62 (dk_at dksL_law_34 5 rfl rfl)
theorem dL_law_866 : decode cL_law 866 = .ok (.aload_n 1, 1) := dk_43 (dk_at dksL_law_34 8 rfl rfl)
theorem dL_law_867 : decode cL_law 867 = .ok (.aload_n 0, 1) := dk_42 (dk_at dksL_law_34 9 rfl rfl)
theorem dL_law_868 : decode cL_law 868 = .ok (.iload 4, 2) := dk_21 4 (dk_at dksL_law_34 10 rfl rfl)
theorem dL_law_870 : decode cL_law 870 = .ok (.iconst 1, 1) := dk_4 (dk_at dksL_law_34 12 rfl rfl)
theorem dL_law_871 : decode cL_law 871 = .ok (.iadd, 1) := dk_96 (dk_at dksL_law_34 13 rfl rfl)
theorem dL_law_872 : decode cL_law 872 = .ok (.iaload, 1) := dk_46 (dk_at dksL_law_34 14 rfl rfl)
theorem dL_law_873 : decode cL_law 873 = .ok (.aload_n 0, 1) := dk_42 (dk_at dksL_law_34 15 rfl rfl)
theorem dL_law_874 : decode cL_law 874 = .ok (.iload 4, 2) := dk_21 4 (dk_at dksL_law_34 16 rfl rfl)
theorem dL_law_876 : decode cL_law 876 = .ok (.iconst 2, 1) := dk_5 (dk_at dksL_law_34 18 rfl rfl)
theorem dL_law_877 : decode cL_law 877 = .ok (.iadd, 1) := dk_96 (dk_at dksL_law_34 19 rfl rfl)
theorem dL_law_878 : decode cL_law 878 = .ok (.iaload, 1) := dk_46 (dk_at dksL_law_34 20 rfl rfl)
theorem dL_law_879 : decode cL_law 879 = .ok (.aload_n 3, 1) := dk_45 (dk_at dksL_law_34 21 rfl rfl)
theorem dL_law_880 : decode cL_law 880 = .ok (.invokestatic 125, 3) := dk_184 0 125 (dk_at dksL_law_35 0 rfl rfl)
theorem dL_law_883 : decode cL_law 883 = .ok (.istore 5, 2) := dk_54 5 (dk_at dksL_law_35 3 rfl rfl)
theorem dL_law_885 : decode cL_law 885 = .ok (.aload_n 2, 1) := dk_44 (dk_at dksL_law_35 5 rfl rfl)
theorem dL_law_886 : decode cL_law 886 = .ok (.aload_n 0, 1) := dk_42 (dk_at dksL_law_35 6 rfl rfl)
theorem dL_law_887 : decode cL_law 887 = .ok (.iload 4, 2) := dk_21 4 (dk_at dksL_law_35 7 rfl rfl)
theorem dL_law_889 : decode cL_law 889 = .ok (.iconst 1, 1) := dk_4 (dk_at dksL_law_35 9 rfl rfl)
theorem dL_law_890 : decode cL_law 890 = .ok (.iadd, 1) := dk_96 (dk_at dksL_law_35 10 rfl rfl)
theorem dL_law_891 : decode cL_law 891 = .ok (.iaload, 1) := dk_46 (dk_at dksL_law_35 11 rfl rfl)
theorem dL_law_892 : decode cL_law 892 = .ok (.aload_n 0, 1) := dk_42 (dk_at dksL_law_35 12 rfl rfl)
theorem dL_law_893 : decode cL_law 893 = .ok (.iload 4, 2) := dk_21 4 (dk_at dksL_law_35 13 rfl rfl)
theorem dL_law_895 : decode cL_law 895 = .ok (.iconst 2, 1) := dk_5 (dk_at dksL_law_35 15 rfl rfl)
theorem dL_law_896 : decode cL_law 896 = .ok (.iadd, 1) := dk_96 (dk_at dksL_law_35 16 rfl rfl)
theorem dL_law_897 : decode cL_law 897 = .ok (.iaload, 1) := dk_46 (dk_at dksL_law_35 17 rfl rfl)
theorem dL_law_898 : decode cL_law 898 = .ok (.invokevirtual 127, 3) := dk_182 0 127 (dk_at dksL_law_35 18 rfl rfl)
theorem dL_law_901 : decode cL_law 901 = .ok (.istore 6, 2) := dk_54 6 (dk_at dksL_law_35 21 rfl rfl)
theorem dL_law_903 : decode cL_law 903 = .ok (.aload_n 2, 1) := dk_44 (dk_at dksL_law_35 23 rfl rfl)
theorem dL_law_904 : decode cL_law 904 = .ok (.invokevirtual 85, 3) := dk_182 0 85 (dk_at dksL_law_36 0 rfl rfl)
theorem dL_law_907 : decode cL_law 907 = .ok (.iload 5, 2) := dk_21 5 (dk_at dksL_law_36 3 rfl rfl)
theorem dL_law_909 : decode cL_law 909 = .ok (.if_icmp .eq 5, 3) := dk_159 0 5 (dk_at dksL_law_36 5 rfl rfl)
theorem dL_law_912 : decode cL_law 912 = .ok (.iconst 0, 1) := dk_3 (dk_at dksL_law_36 8 rfl rfl)
theorem dL_law_913 : decode cL_law 913 = .ok (.ireturn, 1) := dk_172 (dk_at dksL_law_36 9 rfl rfl)
theorem dL_law_914 : decode cL_law 914 = .ok (.iload 5, 2) := dk_21 5 (dk_at dksL_law_36 10 rfl rfl)
theorem dL_law_916 : decode cL_law 916 = .ok (.ifCond .ne 15, 3) := dk_154 0 15 (dk_at dksL_law_36 12 rfl rfl)
theorem dL_law_919 : decode cL_law 919 = .ok (.aload_n 3, 1) := dk_45 (dk_at dksL_law_36 15 rfl rfl)
theorem dL_law_920 : decode cL_law 920 = .ok (.iconst 0, 1) := dk_3 (dk_at dksL_law_36 16 rfl rfl)
theorem dL_law_921 : decode cL_law 921 = .ok (.laload, 1) := dk_47 (dk_at dksL_law_36 17 rfl rfl)
theorem dL_law_922 : decode cL_law 922 = .ok (.iload 6, 2) := dk_21 6 (dk_at dksL_law_36 18 rfl rfl)
theorem dL_law_924 : decode cL_law 924 = .ok (.i2l, 1) := dk_133 (dk_at dksL_law_36 20 rfl rfl)
theorem dL_law_925 : decode cL_law 925 = .ok (.lcmp, 1) := dk_148 (dk_at dksL_law_36 21 rfl rfl)
theorem dL_law_926 : decode cL_law 926 = .ok (.ifCond .eq 5, 3) := dk_153 0 5 (dk_at dksL_law_37 0 rfl rfl)
theorem dL_law_929 : decode cL_law 929 = .ok (.iconst 0, 1) := dk_3 (dk_at dksL_law_37 3 rfl rfl)
theorem dL_law_930 : decode cL_law 930 = .ok (.ireturn, 1) := dk_172 (dk_at dksL_law_37 4 rfl rfl)
theorem dL_law_931 : decode cL_law 931 = .ok (.goto 506, 3) := dk_167 1 250 (dk_at dksL_law_37 5 rfl rfl)
theorem dL_law_934 : decode cL_law 934 = .ok (.aload_n 1, 1) := dk_43 (dk_at dksL_law_37 8 rfl rfl)
theorem dL_law_935 : decode cL_law 935 = .ok (.aload_n 0, 1) := dk_42 (dk_at dksL_law_37 9 rfl rfl)
theorem dL_law_936 : decode cL_law 936 = .ok (.iload 4, 2) := dk_21 4 (dk_at dksL_law_37 10 rfl rfl)
theorem dL_law_938 : decode cL_law 938 = .ok (.iconst 1, 1) := dk_4 (dk_at dksL_law_37 12 rfl rfl)
theorem dL_law_939 : decode cL_law 939 = .ok (.iadd, 1) := dk_96 (dk_at dksL_law_37 13 rfl rfl)
theorem dL_law_940 : decode cL_law 940 = .ok (.iaload, 1) := dk_46 (dk_at dksL_law_37 14 rfl rfl)
theorem dL_law_941 : decode cL_law 941 = .ok (.aload_n 0, 1) := dk_42 (dk_at dksL_law_37 15 rfl rfl)
theorem dL_law_942 : decode cL_law 942 = .ok (.iload 4, 2) := dk_21 4 (dk_at dksL_law_37 16 rfl rfl)
theorem dL_law_944 : decode cL_law 944 = .ok (.iconst 2, 1) := dk_5 (dk_at dksL_law_37 18 rfl rfl)
theorem dL_law_945 : decode cL_law 945 = .ok (.iadd, 1) := dk_96 (dk_at dksL_law_37 19 rfl rfl)
theorem dL_law_946 : decode cL_law 946 = .ok (.iaload, 1) := dk_46 (dk_at dksL_law_37 20 rfl rfl)
theorem dL_law_947 : decode cL_law 947 = .ok (.aload_n 3, 1) := dk_45 (dk_at dksL_law_37 21 rfl rfl)
theorem dL_law_948 : decode cL_law 948 = .ok (.invokestatic 128, 3) := dk_184 0 128 (dk_at dksL_law_38 0 rfl rfl)
theorem dL_law_951 : decode cL_law 951 = .ok (.istore 5, 2) := dk_54 5 (dk_at dksL_law_38 3 rfl rfl)
theorem dL_law_953 : decode cL_law 953 = .ok (.aload_n 2, 1) := dk_44 (dk_at dksL_law_38 5 rfl rfl)
theorem dL_law_954 : decode cL_law 954 = .ok (.aload_n 0, 1) := dk_42 (dk_at dksL_law_38 6 rfl rfl)
theorem dL_law_955 : decode cL_law 955 = .ok (.iload 4, 2) := dk_21 4 (dk_at dksL_law_38 7 rfl rfl)
theorem dL_law_957 : decode cL_law 957 = .ok (.iconst 1, 1) := dk_4 (dk_at dksL_law_38 9 rfl rfl)
theorem dL_law_958 : decode cL_law 958 = .ok (.iadd, 1) := dk_96 (dk_at dksL_law_38 10 rfl rfl)
theorem dL_law_959 : decode cL_law 959 = .ok (.iaload, 1) := dk_46 (dk_at dksL_law_38 11 rfl rfl)
theorem dL_law_960 : decode cL_law 960 = .ok (.aload_n 0, 1) := dk_42 (dk_at dksL_law_38 12 rfl rfl)
theorem dL_law_961 : decode cL_law 961 = .ok (.iload 4, 2) := dk_21 4 (dk_at dksL_law_38 13 rfl rfl)
theorem dL_law_963 : decode cL_law 963 = .ok (.iconst 2, 1) := dk_5 (dk_at dksL_law_38 15 rfl rfl)
theorem dL_law_964 : decode cL_law 964 = .ok (.iadd, 1) := dk_96 (dk_at dksL_law_38 16 rfl rfl)
theorem dL_law_965 : decode cL_law 965 = .ok (.iaload, 1) := dk_46 (dk_at dksL_law_38 17 rfl rfl)
theorem dL_law_966 : decode cL_law 966 = .ok (.invokevirtual 130, 3) := dk_182 0 130 (dk_at dksL_law_38 18 rfl rfl)
theorem dL_law_969 : decode cL_law 969 = .ok (.istore 6, 2) := dk_54 6 (dk_at dksL_law_38 21 rfl rfl)
theorem dL_law_971 : decode cL_law 971 = .ok (.aload_n 2, 1) := dk_44 (dk_at dksL_law_38 23 rfl rfl)
theorem dL_law_972 : decode cL_law 972 = .ok (.invokevirtual 85, 3) := dk_182 0 85 (dk_at dksL_law_39 0 rfl rfl)
theorem dL_law_975 : decode cL_law 975 = .ok (.iload 5, 2) := dk_21 5 (dk_at dksL_law_39 3 rfl rfl)
theorem dL_law_977 : decode cL_law 977 = .ok (.if_icmp .eq 5, 3) := dk_159 0 5 (dk_at dksL_law_39 5 rfl rfl)
theorem dL_law_980 : decode cL_law 980 = .ok (.iconst 0, 1) := dk_3 (dk_at dksL_law_39 8 rfl rfl)
theorem dL_law_981 : decode cL_law 981 = .ok (.ireturn, 1) := dk_172 (dk_at dksL_law_39 9 rfl rfl)
theorem dL_law_982 : decode cL_law 982 = .ok (.iload 5, 2) := dk_21 5 (dk_at dksL_law_39 10 rfl rfl)
theorem dL_law_984 : decode cL_law 984 = .ok (.ifCond .ne 15, 3) := dk_154 0 15 (dk_at dksL_law_39 12 rfl rfl)
theorem dL_law_987 : decode cL_law 987 = .ok (.aload_n 3, 1) := dk_45 (dk_at dksL_law_39 15 rfl rfl)
theorem dL_law_988 : decode cL_law 988 = .ok (.iconst 0, 1) := dk_3 (dk_at dksL_law_39 16 rfl rfl)
theorem dL_law_989 : decode cL_law 989 = .ok (.laload, 1) := dk_47 (dk_at dksL_law_39 17 rfl rfl)
theorem dL_law_990 : decode cL_law 990 = .ok (.iload 6, 2) := dk_21 6 (dk_at dksL_law_39 18 rfl rfl)
theorem dL_law_992 : decode cL_law 992 = .ok (.i2l, 1) := dk_133 (dk_at dksL_law_39 20 rfl rfl)
theorem dL_law_993 : decode cL_law 993 = .ok (.lcmp, 1) := dk_148 (dk_at dksL_law_39 21 rfl rfl)
theorem dL_law_994 : decode cL_law 994 = .ok (.ifCond .eq 5, 3) := dk_153 0 5 (dk_at dksL_law_40 0 rfl rfl)
theorem dL_law_997 : decode cL_law 997 = .ok (.iconst 0, 1) := dk_3 (dk_at dksL_law_40 3 rfl rfl)
theorem dL_law_998 : decode cL_law 998 = .ok (.ireturn, 1) := dk_172 (dk_at dksL_law_40 4 rfl rfl)
theorem dL_law_999 : decode cL_law 999 = .ok (.goto 438, 3) := dk_167 1 182 (dk_at dksL_law_40 5 rfl rfl)
theorem dL_law_1002 : decode cL_law 1002 = .ok (.aload_n 1, 1) := dk_43 (dk_at dksL_law_40 8 rfl rfl)
theorem dL_law_1003 : decode cL_law 1003 = .ok (.aload_n 0, 1) := dk_42 (dk_at dksL_law_40 9 rfl rfl)
theorem dL_law_1004 : decode cL_law 1004 = .ok (.iload 4, 2) := dk_21 4 (dk_at dksL_law_40 10 rfl rfl)
theorem dL_law_1006 : decode cL_law 1006 = .ok (.iconst 1, 1) := dk_4 (dk_at dksL_law_40 12 rfl rfl)
theorem dL_law_1007 : decode cL_law 1007 = .ok (.iadd, 1) := dk_96 (dk_at dksL_law_40 13 rfl rfl)
theorem dL_law_1008 : decode cL_law 1008 = .ok (.iaload, 1) := dk_46 (dk_at dksL_law_40 14 rfl rfl)
theorem dL_law_1009 : decode cL_law 1009 = .ok (.aload_n 0, 1) := dk_42 (dk_at dksL_law_40 15 rfl rfl)
theorem dL_law_1010 : decode cL_law 1010 = .ok (.iload 4, 2) := dk_21 4 (dk_at dksL_law_40 16 rfl rfl)
theorem dL_law_1012 : decode cL_law 1012 = .ok (.iconst 2, 1) := dk_5 (dk_at dksL_law_40 18 rfl rfl)
theorem dL_law_1013 : decode cL_law 1013 = .ok (.iadd, 1) := dk_96 (dk_at dksL_law_40 19 rfl rfl)
theorem dL_law_1014 : decode cL_law 1014 = .ok (.iaload, 1) := dk_46 (dk_at dksL_law_40 20 rfl rfl)
theorem dL_law_1015 : decode cL_law 1015 = .ok (.aload_n 0, 1) := dk_42 (dk_at dksL_law_40 21 rfl rfl)
theorem dL_law_1016 : decode cL_law 1016 = .ok (.iload 4, 2) := dk_21 4 (dk_at dksL_law_40 22 rfl rfl)
theorem dL_law_1018 : decode cL_law 1018 = .ok (.iconst 3, 1) := dk_6 (dk_at dksL_law_41 0 rfl rfl)
theorem dL_law_1019 : decode cL_law 1019 = .ok (.iadd, 1) := dk_96 (dk_at dksL_law_41 1 rfl rfl)
theorem dL_law_1020 : decode cL_law 1020 = .ok (.iaload, 1) := dk_46 (dk_at dksL_law_41 2 rfl rfl)
theorem dL_law_1021 : decode cL_law 1021 = .ok (.aload_n 3, 1) := dk_45 (dk_at dksL_law_41 3 rfl rfl)
theorem dL_law_1022 : decode cL_law 1022 = .ok (.invokestatic 131, 3) := dk_184 0 131 (dk_at dksL_law_41 4 rfl rfl)
theorem dL_law_1025 : decode cL_law 1025 = .ok (.istore 5, 2) := dk_54 5 (dk_at dksL_law_41 7 rfl rfl)
theorem dL_law_1027 : decode cL_law 1027 = .ok (.aload_n 2, 1) := dk_44 (dk_at dksL_law_41 9 rfl rfl)
theorem dL_law_1028 : decode cL_law 1028 = .ok (.aload_n 0, 1) := dk_42 (dk_at dksL_law_41 10 rfl rfl)
theorem dL_law_1029 : decode cL_law 1029 = .ok (.iload 4, 2) := dk_21 4 (dk_at dksL_law_41 11 rfl rfl)
theorem dL_law_1031 : decode cL_law 1031 = .ok (.iconst 1, 1) := dk_4 (dk_at dksL_law_41 13 rfl rfl)
theorem dL_law_1032 : decode cL_law 1032 = .ok (.iadd, 1) := dk_96 (dk_at dksL_law_41 14 rfl rfl)
theorem dL_law_1033 : decode cL_law 1033 = .ok (.iaload, 1) := dk_46 (dk_at dksL_law_41 15 rfl rfl)
theorem dL_law_1034 : decode cL_law 1034 = .ok (.aload_n 0, 1) := dk_42 (dk_at dksL_law_41 16 rfl rfl)
theorem dL_law_1035 : decode cL_law 1035 = .ok (.iload 4, 2) := dk_21 4 (dk_at dksL_law_41 17 rfl rfl)
theorem dL_law_1037 : decode cL_law 1037 = .ok (.iconst 2, 1) := dk_5 (dk_at dksL_law_41 19 rfl rfl)
theorem dL_law_1038 : decode cL_law 1038 = .ok (.iadd, 1) := dk_96 (dk_at dksL_law_41 20 rfl rfl)
theorem dL_law_1039 : decode cL_law 1039 = .ok (.iaload, 1) := dk_46 (dk_at dksL_law_41 21 rfl rfl)
theorem dL_law_1040 : decode cL_law 1040 = .ok (.aload_n 0, 1) := dk_42 (dk_at dksL_law_41 22 rfl rfl)
theorem dL_law_1041 : decode cL_law 1041 = .ok (.iload 4, 2) := dk_21 4 (dk_at dksL_law_42 0 rfl rfl)
theorem dL_law_1043 : decode cL_law 1043 = .ok (.iconst 3, 1) := dk_6 (dk_at dksL_law_42 2 rfl rfl)
theorem dL_law_1044 : decode cL_law 1044 = .ok (.iadd, 1) := dk_96 (dk_at dksL_law_42 3 rfl rfl)
theorem dL_law_1045 : decode cL_law 1045 = .ok (.iaload, 1) := dk_46 (dk_at dksL_law_42 4 rfl rfl)
theorem dL_law_1046 : decode cL_law 1046 = .ok (.invokevirtual 134, 3) := dk_182 0 134 (dk_at dksL_law_42 5 rfl rfl)
theorem dL_law_1049 : decode cL_law 1049 = .ok (.istore 6, 2) := dk_54 6 (dk_at dksL_law_42 8 rfl rfl)
theorem dL_law_1051 : decode cL_law 1051 = .ok (.aload_n 2, 1) := dk_44 (dk_at dksL_law_42 10 rfl rfl)
theorem dL_law_1052 : decode cL_law 1052 = .ok (.invokevirtual 85, 3) := dk_182 0 85 (dk_at dksL_law_42 11 rfl rfl)
theorem dL_law_1055 : decode cL_law 1055 = .ok (.iload 5, 2) := dk_21 5 (dk_at dksL_law_42 14 rfl rfl)
theorem dL_law_1057 : decode cL_law 1057 = .ok (.if_icmp .eq 5, 3) := dk_159 0 5 (dk_at dksL_law_42 16 rfl rfl)
theorem dL_law_1060 : decode cL_law 1060 = .ok (.iconst 0, 1) := dk_3 (dk_at dksL_law_42 19 rfl rfl)
theorem dL_law_1061 : decode cL_law 1061 = .ok (.ireturn, 1) := dk_172 (dk_at dksL_law_42 20 rfl rfl)
theorem dL_law_1062 : decode cL_law 1062 = .ok (.iload 5, 2) := dk_21 5 (dk_at dksL_law_42 21 rfl rfl)
theorem dL_law_1064 : decode cL_law 1064 = .ok (.ifCond .ne 15, 3) := dk_154 0 15 (dk_at dksL_law_43 0 rfl rfl)
theorem dL_law_1067 : decode cL_law 1067 = .ok (.aload_n 3, 1) := dk_45 (dk_at dksL_law_43 3 rfl rfl)
theorem dL_law_1068 : decode cL_law 1068 = .ok (.iconst 0, 1) := dk_3 (dk_at dksL_law_43 4 rfl rfl)
theorem dL_law_1069 : decode cL_law 1069 = .ok (.laload, 1) := dk_47 (dk_at dksL_law_43 5 rfl rfl)
theorem dL_law_1070 : decode cL_law 1070 = .ok (.iload 6, 2) := dk_21 6 (dk_at dksL_law_43 6 rfl rfl)
theorem dL_law_1072 : decode cL_law 1072 = .ok (.i2l, 1) := dk_133 (dk_at dksL_law_43 8 rfl rfl)
theorem dL_law_1073 : decode cL_law 1073 = .ok (.lcmp, 1) := dk_148 (dk_at dksL_law_43 9 rfl rfl)
theorem dL_law_1074 : decode cL_law 1074 = .ok (.ifCond .eq 5, 3) := dk_153 0 5 (dk_at dksL_law_43 10 rfl rfl)
theorem dL_law_1077 : decode cL_law 1077 = .ok (.iconst 0, 1) := dk_3 (dk_at dksL_law_43 13 rfl rfl)
theorem dL_law_1078 : decode cL_law 1078 = .ok (.ireturn, 1) := dk_172 (dk_at dksL_law_43 14 rfl rfl)
theorem dL_law_1079 : decode cL_law 1079 = .ok (.goto 358, 3) := dk_167 1 102 (dk_at dksL_law_43 15 rfl rfl)
theorem dL_law_1082 : decode cL_law 1082 = .ok (.aload_n 1, 1) := dk_43 (dk_at dksL_law_43 18 rfl rfl)
theorem dL_law_1083 : decode cL_law 1083 = .ok (.aload_n 0, 1) := dk_42 (dk_at dksL_law_43 19 rfl rfl)
theorem dL_law_1084 : decode cL_law 1084 = .ok (.iload 4, 2) := dk_21 4 (dk_at dksL_law_43 20 rfl rfl)
theorem dL_law_1086 : decode cL_law 1086 = .ok (.iconst 1, 1) := dk_4 (dk_at dksL_law_43 22 rfl rfl)
theorem dL_law_1087 : decode cL_law 1087 = .ok (.iadd, 1) := dk_96 (dk_at dksL_law_43 23 rfl rfl)
theorem dL_law_1088 : decode cL_law 1088 = .ok (.iaload, 1) := dk_46 (dk_at dksL_law_44 0 rfl rfl)
theorem dL_law_1089 : decode cL_law 1089 = .ok (.aload_n 3, 1) := dk_45 (dk_at dksL_law_44 1 rfl rfl)
theorem dL_law_1090 : decode cL_law 1090 = .ok (.invokestatic 135, 3) := dk_184 0 135 (dk_at dksL_law_44 2 rfl rfl)
theorem dL_law_1093 : decode cL_law 1093 = .ok (.istore 5, 2) := dk_54 5 (dk_at dksL_law_44 5 rfl rfl)
theorem dL_law_1095 : decode cL_law 1095 = .ok (.aload_n 2, 1) := dk_44 (dk_at dksL_law_44 7 rfl rfl)
theorem dL_law_1096 : decode cL_law 1096 = .ok (.aload_n 0, 1) := dk_42 (dk_at dksL_law_44 8 rfl rfl)
theorem dL_law_1097 : decode cL_law 1097 = .ok (.iload 4, 2) := dk_21 4 (dk_at dksL_law_44 9 rfl rfl)
theorem dL_law_1099 : decode cL_law 1099 = .ok (.iconst 1, 1) := dk_4 (dk_at dksL_law_44 11 rfl rfl)
theorem dL_law_1100 : decode cL_law 1100 = .ok (.iadd, 1) := dk_96 (dk_at dksL_law_44 12 rfl rfl)
theorem dL_law_1101 : decode cL_law 1101 = .ok (.iaload, 1) := dk_46 (dk_at dksL_law_44 13 rfl rfl)
theorem dL_law_1102 : decode cL_law 1102 = .ok (.invokevirtual 137, 3) := dk_182 0 137 (dk_at dksL_law_44 14 rfl rfl)
theorem dL_law_1105 : decode cL_law 1105 = .ok (.istore 6, 2) := dk_54 6 (dk_at dksL_law_44 17 rfl rfl)
theorem dL_law_1107 : decode cL_law 1107 = .ok (.aload_n 2, 1) := dk_44 (dk_at dksL_law_44 19 rfl rfl)
theorem dL_law_1108 : decode cL_law 1108 = .ok (.invokevirtual 85, 3) := dk_182 0 85 (dk_at dksL_law_44 20 rfl rfl)
theorem dL_law_1111 : decode cL_law 1111 = .ok (.iload 5, 2) := dk_21 5 (dk_at dksL_law_45 0 rfl rfl)
theorem dL_law_1113 : decode cL_law 1113 = .ok (.if_icmp .eq 5, 3) := dk_159 0 5 (dk_at dksL_law_45 2 rfl rfl)
theorem dL_law_1116 : decode cL_law 1116 = .ok (.iconst 0, 1) := dk_3 (dk_at dksL_law_45 5 rfl rfl)
theorem dL_law_1117 : decode cL_law 1117 = .ok (.ireturn, 1) := dk_172 (dk_at dksL_law_45 6 rfl rfl)
theorem dL_law_1118 : decode cL_law 1118 = .ok (.iload 5, 2) := dk_21 5 (dk_at dksL_law_45 7 rfl rfl)
theorem dL_law_1120 : decode cL_law 1120 = .ok (.ifCond .ne 22, 3) := dk_154 0 22 (dk_at dksL_law_45 9 rfl rfl)
theorem dL_law_1123 : decode cL_law 1123 = .ok (.aload_n 3, 1) := dk_45 (dk_at dksL_law_45 12 rfl rfl)
theorem dL_law_1124 : decode cL_law 1124 = .ok (.iconst 0, 1) := dk_3 (dk_at dksL_law_45 13 rfl rfl)
theorem dL_law_1125 : decode cL_law 1125 = .ok (.laload, 1) := dk_47 (dk_at dksL_law_45 14 rfl rfl)
theorem dL_law_1126 : decode cL_law 1126 = .ok (.iload 6, 2) := dk_21 6 (dk_at dksL_law_45 15 rfl rfl)
theorem dL_law_1128 : decode cL_law 1128 = .ok (.ifCond .eq 7, 3) := dk_153 0 7 (dk_at dksL_law_45 17 rfl rfl)
theorem dL_law_1131 : decode cL_law 1131 = .ok (.lconst 1, 1) := dk_10 (dk_at dksL_law_45 20 rfl rfl)
theorem dL_law_1132 : decode cL_law 1132 = .ok (.goto 4, 3) := dk_167 0 4 (dk_at dksL_law_45 21 rfl rfl)
theorem dL_law_1135 : decode cL_law 1135 = .ok (.lconst 0, 1) := dk_9 (dk_at dksL_law_46 0 rfl rfl)
theorem dL_law_1136 : decode cL_law 1136 = .ok (.lcmp, 1) := dk_148 (dk_at dksL_law_46 1 rfl rfl)
theorem dL_law_1137 : decode cL_law 1137 = .ok (.ifCond .eq 5, 3) := dk_153 0 5 (dk_at dksL_law_46 2 rfl rfl)
theorem dL_law_1140 : decode cL_law 1140 = .ok (.iconst 0, 1) := dk_3 (dk_at dksL_law_46 5 rfl rfl)
theorem dL_law_1141 : decode cL_law 1141 = .ok (.ireturn, 1) := dk_172 (dk_at dksL_law_46 6 rfl rfl)
theorem dL_law_1142 : decode cL_law 1142 = .ok (.goto 295, 3) := dk_167 1 39 (dk_at dksL_law_46 7 rfl rfl)
theorem dL_law_1145 : decode cL_law 1145 = .ok (.aload_n 1, 1) := dk_43 (dk_at dksL_law_46 10 rfl rfl)
theorem dL_law_1146 : decode cL_law 1146 = .ok (.invokevirtual 138, 3) := dk_182 0 138 (dk_at dksL_law_46 11 rfl rfl)
theorem dL_law_1149 : decode cL_law 1149 = .ok (.aload_n 2, 1) := dk_44 (dk_at dksL_law_46 14 rfl rfl)
theorem dL_law_1150 : decode cL_law 1150 = .ok (.invokevirtual 141, 3) := dk_182 0 141 (dk_at dksL_law_46 15 rfl rfl)
theorem dL_law_1153 : decode cL_law 1153 = .ok (.if_icmp .eq 284, 3) := dk_159 1 28 (dk_at dksL_law_46 18 rfl rfl)
theorem dL_law_1156 : decode cL_law 1156 = .ok (.iconst 0, 1) := dk_3 (dk_at dksL_law_46 21 rfl rfl)
theorem dL_law_1157 : decode cL_law 1157 = .ok (.ireturn, 1) := dk_172 (dk_at dksL_law_46 22 rfl rfl)
theorem dL_law_1158 : decode cL_law 1158 = .ok (.aload_n 1, 1) := dk_43 (dk_at dksL_law_46 23 rfl rfl)
theorem dL_law_1159 : decode cL_law 1159 = .ok (.aload_n 3, 1) := dk_45 (dk_at dksL_law_47 0 rfl rfl)
theorem dL_law_1160 : decode cL_law 1160 = .ok (.invokestatic 142, 3) := dk_184 0 142 (dk_at dksL_law_47 1 rfl rfl)
theorem dL_law_1163 : decode cL_law 1163 = .ok (.istore 5, 2) := dk_54 5 (dk_at dksL_law_47 4 rfl rfl)
theorem dL_law_1165 : decode cL_law 1165 = .ok (.aload_n 2, 1) := dk_44 (dk_at dksL_law_47 6 rfl rfl)
theorem dL_law_1166 : decode cL_law 1166 = .ok (.invokevirtual 145, 3) := dk_182 0 145 (dk_at dksL_law_47 7 rfl rfl)
theorem dL_law_1169 : decode cL_law 1169 = .ok (.istore 6, 2) := dk_54 6 (dk_at dksL_law_47 10 rfl rfl)
theorem dL_law_1171 : decode cL_law 1171 = .ok (.aload_n 2, 1) := dk_44 (dk_at dksL_law_47 12 rfl rfl)
theorem dL_law_1172 : decode cL_law 1172 = .ok (.invokevirtual 85, 3) := dk_182 0 85 (dk_at dksL_law_47 13 rfl rfl)
theorem dL_law_1175 : decode cL_law 1175 = .ok (.iload 5, 2) := dk_21 5 (dk_at dksL_law_47 16 rfl rfl)
theorem dL_law_1177 : decode cL_law 1177 = .ok (.if_icmp .eq 5, 3) := dk_159 0 5 (dk_at dksL_law_47 18 rfl rfl)
theorem dL_law_1180 : decode cL_law 1180 = .ok (.iconst 0, 1) := dk_3 (dk_at dksL_law_47 21 rfl rfl)
theorem dL_law_1181 : decode cL_law 1181 = .ok (.ireturn, 1) := dk_172 (dk_at dksL_law_47 22 rfl rfl)
theorem dL_law_1182 : decode cL_law 1182 = .ok (.iload 5, 2) := dk_21 5 (dk_at dksL_law_48 0 rfl rfl)
theorem dL_law_1184 : decode cL_law 1184 = .ok (.ifCond .ne 15, 3) := dk_154 0 15 (dk_at dksL_law_48 2 rfl rfl)
theorem dL_law_1187 : decode cL_law 1187 = .ok (.aload_n 3, 1) := dk_45 (dk_at dksL_law_48 5 rfl rfl)
theorem dL_law_1188 : decode cL_law 1188 = .ok (.iconst 0, 1) := dk_3 (dk_at dksL_law_48 6 rfl rfl)
theorem dL_law_1189 : decode cL_law 1189 = .ok (.laload, 1) := dk_47 (dk_at dksL_law_48 7 rfl rfl)
theorem dL_law_1190 : decode cL_law 1190 = .ok (.iload 6, 2) := dk_21 6 (dk_at dksL_law_48 8 rfl rfl)
theorem dL_law_1192 : decode cL_law 1192 = .ok (.i2l, 1) := dk_133 (dk_at dksL_law_48 10 rfl rfl)
theorem dL_law_1193 : decode cL_law 1193 = .ok (.lcmp, 1) := dk_148 (dk_at dksL_law_48 11 rfl rfl)
theorem dL_law_1194 : decode cL_law 1194 = .ok (.ifCond .eq 5, 3) := dk_153 0 5 (dk_at dksL_law_48 12 rfl rfl)
theorem dL_law_1197 : decode cL_law 1197 = .ok (.iconst 0, 1) := dk_3 (dk_at dksL_law_48 15 rfl rfl)
theorem dL_law_1198 : decode cL_law 1198 = .ok (.ireturn, 1) := dk_172 (dk_at dksL_law_48 16 rfl rfl)
theorem dL_law_1199 : decode cL_law 1199 = .ok (.goto 238, 3) := dk_167 0 238 (dk_at dksL_law_48 17 rfl rfl)
theorem dL_law_1202 : decode cL_law 1202 = .ok (.aload_n 1, 1) := dk_43 (dk_at dksL_law_48 20 rfl rfl)
theorem dL_law_1203 : decode cL_law 1203 = .ok (.aload_n 0, 1) := dk_42 (dk_at dksL_law_48 21 rfl rfl)
theorem dL_law_1204 : decode cL_law 1204 = .ok (.iload 4, 2) := dk_21 4 (dk_at dksL_law_48 22 rfl rfl)
theorem dL_law_1206 : decode cL_law 1206 = .ok (.iconst 1, 1) := dk_4 (dk_at dksL_law_49 0 rfl rfl)
theorem dL_law_1207 : decode cL_law 1207 = .ok (.iadd, 1) := dk_96 (dk_at dksL_law_49 1 rfl rfl)
theorem dL_law_1208 : decode cL_law 1208 = .ok (.iaload, 1) := dk_46 (dk_at dksL_law_49 2 rfl rfl)
theorem dL_law_1209 : decode cL_law 1209 = .ok (.aload_n 0, 1) := dk_42 (dk_at dksL_law_49 3 rfl rfl)
theorem dL_law_1210 : decode cL_law 1210 = .ok (.iload 4, 2) := dk_21 4 (dk_at dksL_law_49 4 rfl rfl)
theorem dL_law_1212 : decode cL_law 1212 = .ok (.iconst 2, 1) := dk_5 (dk_at dksL_law_49 6 rfl rfl)
theorem dL_law_1213 : decode cL_law 1213 = .ok (.iadd, 1) := dk_96 (dk_at dksL_law_49 7 rfl rfl)
theorem dL_law_1214 : decode cL_law 1214 = .ok (.iaload, 1) := dk_46 (dk_at dksL_law_49 8 rfl rfl)
theorem dL_law_1215 : decode cL_law 1215 = .ok (.aload_n 3, 1) := dk_45 (dk_at dksL_law_49 9 rfl rfl)
theorem dL_law_1216 : decode cL_law 1216 = .ok (.invokestatic 146, 3) := dk_184 0 146 (dk_at dksL_law_49 10 rfl rfl)
theorem dL_law_1219 : decode cL_law 1219 = .ok (.istore 5, 2) := dk_54 5 (dk_at dksL_law_49 13 rfl rfl)
theorem dL_law_1221 : decode cL_law 1221 = .ok (.aload_n 2, 1) := dk_44 (dk_at dksL_law_49 15 rfl rfl)
theorem dL_law_1222 : decode cL_law 1222 = .ok (.aload_n 0, 1) := dk_42 (dk_at dksL_law_49 16 rfl rfl)
theorem dL_law_1223 : decode cL_law 1223 = .ok (.iload 4, 2) := dk_21 4 (dk_at dksL_law_49 17 rfl rfl)
theorem dL_law_1225 : decode cL_law 1225 = .ok (.iconst 1, 1) := dk_4 (dk_at dksL_law_49 19 rfl rfl)
theorem dL_law_1226 : decode cL_law 1226 = .ok (.iadd, 1) := dk_96 (dk_at dksL_law_49 20 rfl rfl)
theorem dL_law_1227 : decode cL_law 1227 = .ok (.iaload, 1) := dk_46 (dk_at dksL_law_49 21 rfl rfl)
theorem dL_law_1228 : decode cL_law 1228 = .ok (.aload_n 0, 1) := dk_42 (dk_at dksL_law_49 22 rfl rfl)
theorem dL_law_1229 : decode cL_law 1229 = .ok (.iload 4, 2) := dk_21 4 (dk_at dksL_law_50 0 rfl rfl)
theorem dL_law_1231 : decode cL_law 1231 = .ok (.iconst 2, 1) := dk_5 (dk_at dksL_law_50 2 rfl rfl)
theorem dL_law_1232 : decode cL_law 1232 = .ok (.iadd, 1) := dk_96 (dk_at dksL_law_50 3 rfl rfl)
theorem dL_law_1233 : decode cL_law 1233 = .ok (.iaload, 1) := dk_46 (dk_at dksL_law_50 4 rfl rfl)
theorem dL_law_1234 : decode cL_law 1234 = .ok (.invokevirtual 148, 3) := dk_182 0 148 (dk_at dksL_law_50 5 rfl rfl)
theorem dL_law_1237 : decode cL_law 1237 = .ok (.istore 6, 2) := dk_54 6 (dk_at dksL_law_50 8 rfl rfl)
theorem dL_law_1239 : decode cL_law 1239 = .ok (.aload_n 2, 1) := dk_44 (dk_at dksL_law_50 10 rfl rfl)
theorem dL_law_1240 : decode cL_law 1240 = .ok (.invokevirtual 85, 3) := dk_182 0 85 (dk_at dksL_law_50 11 rfl rfl)
theorem dL_law_1243 : decode cL_law 1243 = .ok (.iload 5, 2) := dk_21 5 (dk_at dksL_law_50 14 rfl rfl)
theorem dL_law_1245 : decode cL_law 1245 = .ok (.if_icmp .eq 5, 3) := dk_159 0 5 (dk_at dksL_law_50 16 rfl rfl)
theorem dL_law_1248 : decode cL_law 1248 = .ok (.iconst 0, 1) := dk_3 (dk_at dksL_law_50 19 rfl rfl)
theorem dL_law_1249 : decode cL_law 1249 = .ok (.ireturn, 1) := dk_172 (dk_at dksL_law_50 20 rfl rfl)
theorem dL_law_1250 : decode cL_law 1250 = .ok (.iload 5, 2) := dk_21 5 (dk_at dksL_law_50 21 rfl rfl)
theorem dL_law_1252 : decode cL_law 1252 = .ok (.ifCond .ne 15, 3) := dk_154 0 15 (dk_at dksL_law_51 0 rfl rfl)
theorem dL_law_1255 : decode cL_law 1255 = .ok (.aload_n 3, 1) := dk_45 (dk_at dksL_law_51 3 rfl rfl)
theorem dL_law_1256 : decode cL_law 1256 = .ok (.iconst 0, 1) := dk_3 (dk_at dksL_law_51 4 rfl rfl)
theorem dL_law_1257 : decode cL_law 1257 = .ok (.laload, 1) := dk_47 (dk_at dksL_law_51 5 rfl rfl)
theorem dL_law_1258 : decode cL_law 1258 = .ok (.iload 6, 2) := dk_21 6 (dk_at dksL_law_51 6 rfl rfl)
theorem dL_law_1260 : decode cL_law 1260 = .ok (.i2l, 1) := dk_133 (dk_at dksL_law_51 8 rfl rfl)
theorem dL_law_1261 : decode cL_law 1261 = .ok (.lcmp, 1) := dk_148 (dk_at dksL_law_51 9 rfl rfl)
theorem dL_law_1262 : decode cL_law 1262 = .ok (.ifCond .eq 5, 3) := dk_153 0 5 (dk_at dksL_law_51 10 rfl rfl)
theorem dL_law_1265 : decode cL_law 1265 = .ok (.iconst 0, 1) := dk_3 (dk_at dksL_law_51 13 rfl rfl)
theorem dL_law_1266 : decode cL_law 1266 = .ok (.ireturn, 1) := dk_172 (dk_at dksL_law_51 14 rfl rfl)
theorem dL_law_1267 : decode cL_law 1267 = .ok (.goto 170, 3) := dk_167 0 170 (dk_at dksL_law_51 15 rfl rfl)
theorem dL_law_1270 : decode cL_law 1270 = .ok (.aload_n 1, 1) := dk_43 (dk_at dksL_law_51 18 rfl rfl)
theorem dL_law_1271 : decode cL_law 1271 = .ok (.aload_n 0, 1) := dk_42 (dk_at dksL_law_51 19 rfl rfl)
theorem dL_law_1272 : decode cL_law 1272 = .ok (.iload 4, 2) := dk_21 4 (dk_at dksL_law_51 20 rfl rfl)
theorem dL_law_1274 : decode cL_law 1274 = .ok (.iconst 1, 1) := dk_4 (dk_at dksL_law_51 22 rfl rfl)
theorem dL_law_1275 : decode cL_law 1275 = .ok (.iadd, 1) := dk_96 (dk_at dksL_law_51 23 rfl rfl)
theorem dL_law_1276 : decode cL_law 1276 = .ok (.iaload, 1) := dk_46 (dk_at dksL_law_52 0 rfl rfl)
theorem dL_law_1277 : decode cL_law 1277 = .ok (.aload_n 3, 1) := dk_45 (dk_at dksL_law_52 1 rfl rfl)
theorem dL_law_1278 : decode cL_law 1278 = .ok (.invokestatic 149, 3) := dk_184 0 149 (dk_at dksL_law_52 2 rfl rfl)
theorem dL_law_1281 : decode cL_law 1281 = .ok (.istore 5, 2) := dk_54 5 (dk_at dksL_law_52 5 rfl rfl)
theorem dL_law_1283 : decode cL_law 1283 = .ok (.aload_n 2, 1) := dk_44 (dk_at dksL_law_52 7 rfl rfl)
theorem dL_law_1284 : decode cL_law 1284 = .ok (.aload_n 0, 1) := dk_42 (dk_at dksL_law_52 8 rfl rfl)
theorem dL_law_1285 : decode cL_law 1285 = .ok (.iload 4, 2) := dk_21 4 (dk_at dksL_law_52 9 rfl rfl)
theorem dL_law_1287 : decode cL_law 1287 = .ok (.iconst 1, 1) := dk_4 (dk_at dksL_law_52 11 rfl rfl)
theorem dL_law_1288 : decode cL_law 1288 = .ok (.iadd, 1) := dk_96 (dk_at dksL_law_52 12 rfl rfl)
theorem dL_law_1289 : decode cL_law 1289 = .ok (.iaload, 1) := dk_46 (dk_at dksL_law_52 13 rfl rfl)
theorem dL_law_1290 : decode cL_law 1290 = .ok (.invokevirtual 151, 3) := dk_182 0 151 (dk_at dksL_law_52 14 rfl rfl)
theorem dL_law_1293 : decode cL_law 1293 = .ok (.istore 6, 2) := dk_54 6 (dk_at dksL_law_52 17 rfl rfl)
theorem dL_law_1295 : decode cL_law 1295 = .ok (.aload_n 2, 1) := dk_44 (dk_at dksL_law_52 19 rfl rfl)
theorem dL_law_1296 : decode cL_law 1296 = .ok (.invokevirtual 85, 3) := dk_182 0 85 (dk_at dksL_law_52 20 rfl rfl)
theorem dL_law_1299 : decode cL_law 1299 = .ok (.iload 5, 2) := dk_21 5 (dk_at dksL_law_53 0 rfl rfl)
theorem dL_law_1301 : decode cL_law 1301 = .ok (.if_icmp .eq 5, 3) := dk_159 0 5 (dk_at dksL_law_53 2 rfl rfl)
theorem dL_law_1304 : decode cL_law 1304 = .ok (.iconst 0, 1) := dk_3 (dk_at dksL_law_53 5 rfl rfl)
theorem dL_law_1305 : decode cL_law 1305 = .ok (.ireturn, 1) := dk_172 (dk_at dksL_law_53 6 rfl rfl)
theorem dL_law_1306 : decode cL_law 1306 = .ok (.iload 5, 2) := dk_21 5 (dk_at dksL_law_53 7 rfl rfl)
theorem dL_law_1308 : decode cL_law 1308 = .ok (.ifCond .ne 15, 3) := dk_154 0 15 (dk_at dksL_law_53 9 rfl rfl)
theorem dL_law_1311 : decode cL_law 1311 = .ok (.aload_n 3, 1) := dk_45 (dk_at dksL_law_53 12 rfl rfl)
theorem dL_law_1312 : decode cL_law 1312 = .ok (.iconst 0, 1) := dk_3 (dk_at dksL_law_53 13 rfl rfl)
theorem dL_law_1313 : decode cL_law 1313 = .ok (.laload, 1) := dk_47 (dk_at dksL_law_53 14 rfl rfl)
theorem dL_law_1314 : decode cL_law 1314 = .ok (.iload 6, 2) := dk_21 6 (dk_at dksL_law_53 15 rfl rfl)
theorem dL_law_1316 : decode cL_law 1316 = .ok (.i2l, 1) := dk_133 (dk_at dksL_law_53 17 rfl rfl)
theorem dL_law_1317 : decode cL_law 1317 = .ok (.lcmp, 1) := dk_148 (dk_at dksL_law_53 18 rfl rfl)
theorem dL_law_1318 : decode cL_law 1318 = .ok (.ifCond .eq 5, 3) := dk_153 0 5 (dk_at dksL_law_53 19 rfl rfl)
theorem dL_law_1321 : decode cL_law 1321 = .ok (.iconst 0, 1) := dk_3 (dk_at dksL_law_53 22 rfl rfl)
theorem dL_law_1322 : decode cL_law 1322 = .ok (.ireturn, 1) := dk_172 (dk_at dksL_law_53 23 rfl rfl)
theorem dL_law_1323 : decode cL_law 1323 = .ok (.goto 114, 3) := dk_167 0 114 (dk_at dksL_law_54 0 rfl rfl)
theorem dL_law_1326 : decode cL_law 1326 = .ok (.aload_n 1, 1) := dk_43 (dk_at dksL_law_54 3 rfl rfl)
theorem dL_law_1327 : decode cL_law 1327 = .ok (.aload_n 0, 1) := dk_42 (dk_at dksL_law_54 4 rfl rfl)
theorem dL_law_1328 : decode cL_law 1328 = .ok (.iload 4, 2) := dk_21 4 (dk_at dksL_law_54 5 rfl rfl)
theorem dL_law_1330 : decode cL_law 1330 = .ok (.iconst 1, 1) := dk_4 (dk_at dksL_law_54 7 rfl rfl)
theorem dL_law_1331 : decode cL_law 1331 = .ok (.iadd, 1) := dk_96 (dk_at dksL_law_54 8 rfl rfl)
theorem dL_law_1332 : decode cL_law 1332 = .ok (.iaload, 1) := dk_46 (dk_at dksL_law_54 9 rfl rfl)
theorem dL_law_1333 : decode cL_law 1333 = .ok (.aload_n 3, 1) := dk_45 (dk_at dksL_law_54 10 rfl rfl)
theorem dL_law_1334 : decode cL_law 1334 = .ok (.invokestatic 152, 3) := dk_184 0 152 (dk_at dksL_law_54 11 rfl rfl)
theorem dL_law_1337 : decode cL_law 1337 = .ok (.istore 5, 2) := dk_54 5 (dk_at dksL_law_54 14 rfl rfl)
theorem dL_law_1339 : decode cL_law 1339 = .ok (.aload_n 2, 1) := dk_44 (dk_at dksL_law_54 16 rfl rfl)
theorem dL_law_1340 : decode cL_law 1340 = .ok (.aload_n 0, 1) := dk_42 (dk_at dksL_law_54 17 rfl rfl)
theorem dL_law_1341 : decode cL_law 1341 = .ok (.iload 4, 2) := dk_21 4 (dk_at dksL_law_54 18 rfl rfl)
theorem dL_law_1343 : decode cL_law 1343 = .ok (.iconst 1, 1) := dk_4 (dk_at dksL_law_54 20 rfl rfl)
theorem dL_law_1344 : decode cL_law 1344 = .ok (.iadd, 1) := dk_96 (dk_at dksL_law_54 21 rfl rfl)
theorem dL_law_1345 : decode cL_law 1345 = .ok (.iaload, 1) := dk_46 (dk_at dksL_law_54 22 rfl rfl)
theorem dL_law_1346 : decode cL_law 1346 = .ok (.invokevirtual 154, 3) := dk_182 0 154 (dk_at dksL_law_55 0 rfl rfl)
theorem dL_law_1349 : decode cL_law 1349 = .ok (.istore 6, 2) := dk_54 6 (dk_at dksL_law_55 3 rfl rfl)
theorem dL_law_1351 : decode cL_law 1351 = .ok (.aload_n 2, 1) := dk_44 (dk_at dksL_law_55 5 rfl rfl)
theorem dL_law_1352 : decode cL_law 1352 = .ok (.invokevirtual 85, 3) := dk_182 0 85 (dk_at dksL_law_55 6 rfl rfl)
theorem dL_law_1355 : decode cL_law 1355 = .ok (.iload 5, 2) := dk_21 5 (dk_at dksL_law_55 9 rfl rfl)
theorem dL_law_1357 : decode cL_law 1357 = .ok (.if_icmp .eq 5, 3) := dk_159 0 5 (dk_at dksL_law_55 11 rfl rfl)
theorem dL_law_1360 : decode cL_law 1360 = .ok (.iconst 0, 1) := dk_3 (dk_at dksL_law_55 14 rfl rfl)
theorem dL_law_1361 : decode cL_law 1361 = .ok (.ireturn, 1) := dk_172 (dk_at dksL_law_55 15 rfl rfl)
theorem dL_law_1362 : decode cL_law 1362 = .ok (.iload 5, 2) := dk_21 5 (dk_at dksL_law_55 16 rfl rfl)
theorem dL_law_1364 : decode cL_law 1364 = .ok (.ifCond .ne 15, 3) := dk_154 0 15 (dk_at dksL_law_55 18 rfl rfl)
theorem dL_law_1367 : decode cL_law 1367 = .ok (.aload_n 3, 1) := dk_45 (dk_at dksL_law_55 21 rfl rfl)
theorem dL_law_1368 : decode cL_law 1368 = .ok (.iconst 0, 1) := dk_3 (dk_at dksL_law_55 22 rfl rfl)
theorem dL_law_1369 : decode cL_law 1369 = .ok (.laload, 1) := dk_47 (dk_at dksL_law_55 23 rfl rfl)
theorem dL_law_1370 : decode cL_law 1370 = .ok (.iload 6, 2) := dk_21 6 (dk_at dksL_law_56 0 rfl rfl)
theorem dL_law_1372 : decode cL_law 1372 = .ok (.i2l, 1) := dk_133 (dk_at dksL_law_56 2 rfl rfl)
theorem dL_law_1373 : decode cL_law 1373 = .ok (.lcmp, 1) := dk_148 (dk_at dksL_law_56 3 rfl rfl)
theorem dL_law_1374 : decode cL_law 1374 = .ok (.ifCond .eq 5, 3) := dk_153 0 5 (dk_at dksL_law_56 4 rfl rfl)
theorem dL_law_1377 : decode cL_law 1377 = .ok (.iconst 0, 1) := dk_3 (dk_at dksL_law_56 7 rfl rfl)
theorem dL_law_1378 : decode cL_law 1378 = .ok (.ireturn, 1) := dk_172 (dk_at dksL_law_56 8 rfl rfl)
theorem dL_law_1379 : decode cL_law 1379 = .ok (.goto 58, 3) := dk_167 0 58 (dk_at dksL_law_56 9 rfl rfl)
theorem dL_law_1382 : decode cL_law 1382 = .ok (.aload_n 1, 1) := dk_43 (dk_at dksL_law_56 12 rfl rfl)
theorem dL_law_1383 : decode cL_law 1383 = .ok (.invokevirtual 155, 3) := dk_182 0 155 (dk_at dksL_law_56 13 rfl rfl)
theorem dL_law_1386 : decode cL_law 1386 = .ok (.dstore 5, 2) := dk_57 5 (dk_at dksL_law_56 16 rfl rfl)
theorem dL_law_1388 : decode cL_law 1388 = .ok (.aload_n 2, 1) := dk_44 (dk_at dksL_law_56 18 rfl rfl)
theorem dL_law_1389 : decode cL_law 1389 = .ok (.invokevirtual 159, 3) := dk_182 0 159 (dk_at dksL_law_56 19 rfl rfl)
theorem dL_law_1392 : decode cL_law 1392 = .ok (.dstore 7, 2) := dk_57 7 (dk_at dksL_law_56 22 rfl rfl)
theorem dL_law_1394 : decode cL_law 1394 = .ok (.dload 5, 2) := dk_24 5 (dk_at dksL_law_57 0 rfl rfl)
theorem dL_law_1396 : decode cL_law 1396 = .ok (.dload 7, 2) := dk_24 7 (dk_at dksL_law_57 2 rfl rfl)
theorem dL_law_1398 : decode cL_law 1398 = .ok (.dcmp .l, 1) := dk_151 (dk_at dksL_law_57 4 rfl rfl)
theorem dL_law_1399 : decode cL_law 1399 = .ok (.ifCond .eq 21, 3) := dk_153 0 21 (dk_at dksL_law_57 5 rfl rfl)
theorem dL_law_1402 : decode cL_law 1402 = .ok (.dload 5, 2) := dk_24 5 (dk_at dksL_law_57 8 rfl rfl)
theorem dL_law_1404 : decode cL_law 1404 = .ok (.dload 5, 2) := dk_24 5 (dk_at dksL_law_57 10 rfl rfl)
theorem dL_law_1406 : decode cL_law 1406 = .ok (.dcmp .l, 1) := dk_151 (dk_at dksL_law_57 12 rfl rfl)
theorem dL_law_1407 : decode cL_law 1407 = .ok (.ifCond .eq 11, 3) := dk_153 0 11 (dk_at dksL_law_57 13 rfl rfl)
theorem dL_law_1410 : decode cL_law 1410 = .ok (.dload 7, 2) := dk_24 7 (dk_at dksL_law_57 16 rfl rfl)
theorem dL_law_1412 : decode cL_law 1412 = .ok (.dload 7, 2) := dk_24 7 (dk_at dksL_law_57 18 rfl rfl)
theorem dL_law_1414 : decode cL_law 1414 = .ok (.dcmp .l, 1) := dk_151 (dk_at dksL_law_57 20 rfl rfl)
theorem dL_law_1415 : decode cL_law 1415 = .ok (.ifCond .ne 5, 3) := dk_154 0 5 (dk_at dksL_law_57 21 rfl rfl)
theorem dL_law_1418 : decode cL_law 1418 = .ok (.iconst 0, 1) := dk_3 (dk_at dksL_law_58 0 rfl rfl)
theorem dL_law_1419 : decode cL_law 1419 = .ok (.ireturn, 1) := dk_172 (dk_at dksL_law_58 1 rfl rfl)
theorem dL_law_1420 : decode cL_law 1420 = .ok (.goto 17, 3) := dk_167 0 17 (dk_at dksL_law_58 2 rfl rfl)
theorem dL_law_1423 : decode cL_law 1423 = .ok (.aload_n 1, 1) := dk_43 (dk_at dksL_law_58 5 rfl rfl)
theorem dL_law_1424 : decode cL_law 1424 = .ok (.invokevirtual 160, 3) := dk_182 0 160 (dk_at dksL_law_58 6 rfl rfl)
theorem dL_law_1427 : decode cL_law 1427 = .ok (.aload_n 2, 1) := dk_44 (dk_at dksL_law_58 9 rfl rfl)
theorem dL_law_1428 : decode cL_law 1428 = .ok (.invokevirtual 164, 3) := dk_182 0 164 (dk_at dksL_law_58 10 rfl rfl)
theorem dL_law_1431 : decode cL_law 1431 = .ok (.lcmp, 1) := dk_148 (dk_at dksL_law_58 13 rfl rfl)
theorem dL_law_1432 : decode cL_law 1432 = .ok (.ifCond .eq 5, 3) := dk_153 0 5 (dk_at dksL_law_58 14 rfl rfl)
theorem dL_law_1435 : decode cL_law 1435 = .ok (.iconst 0, 1) := dk_3 (dk_at dksL_law_58 17 rfl rfl)
theorem dL_law_1436 : decode cL_law 1436 = .ok (.ireturn, 1) := dk_172 (dk_at dksL_law_58 18 rfl rfl)
theorem dL_law_1437 : decode cL_law 1437 = .ok (.iinc 4 6, 3) := dk_132 4 6 (dk_at dksL_law_58 19 rfl rfl)
theorem dL_law_1440 : decode cL_law 1440 = .ok (.goto (-1417), 3) := dk_167 250 119 (dk_at dksL_law_59 0 rfl rfl)
theorem dL_law_1443 : decode cL_law 1443 = .ok (.iconst 1, 1) := dk_4 (dk_at dksL_law_59 3 rfl rfl)
theorem dL_law_1444 : decode cL_law 1444 = .ok (.ireturn, 1) := dk_172 (dk_at dksL_law_59 4 rfl rfl)

theorem q200 : (Jvm.Cond.arrayClass Jvm.ClassFile.FieldType.byte) ∈ lw_all := lw_g (lw_at lw_m1 89 rfl) rfl
set_option maxRecDepth 100000
theorem q236 : (Jvm.Cond.arrayClass Jvm.ClassFile.FieldType.int) ∈ lw_all := lw_g (lw_at lw_m1 125 rfl) rfl
theorem q859 : (Jvm.Cond.arrayOver (Jvm.ClassFile.FieldType.object "java/lang/Object")) ∈ lw_tbl := lw_at lw_m4 28 rfl
theorem q1821 : (Jvm.Cond.arrayOver (Jvm.ClassFile.FieldType.object "java/util/HashMap$Node")) ∈ lw_tbl := lw_at lw_m8 30 rfl
theorem q2726 : (Jvm.Cond.arrayOver (Jvm.ClassFile.FieldType.object "java/lang/String")) ∈ lw_tbl := lw_at lw_m11 215 rfl
theorem q2791 : (Jvm.Cond.arrayOver (Jvm.ClassFile.FieldType.object "GridTableModel$Places")) ∈ lw_tbl := lw_at lw_m12 40 rfl
theorem q3291 : (Jvm.Cond.arrayClass Jvm.ClassFile.FieldType.long) ∈ lw_all := lw_g (lw_at lw_m14 60 rfl) rfl
theorem q3392 : (Jvm.Cond.arrayClass Jvm.ClassFile.FieldType.char) ∈ lw_all := lw_g (lw_at lw_m14 161 rfl) rfl
theorem q3393 : (Jvm.Cond.arrayClass Jvm.ClassFile.FieldType.short) ∈ lw_all := lw_g (lw_at lw_m14 162 rfl) rfl

theorem q130 : (Jvm.Cond.initialized "GridTable$Sort") ∈ lw_all := lw_g (lw_at lw_m1 19 rfl) rfl
set_option maxRecDepth 100000
theorem q343 : (Jvm.Cond.laysStatic "GridTable$Sort" "BAD" "LGridTable$Sort;") ∈ lw_tbl := lw_at lw_m1 232 rfl
theorem q722 : (Jvm.Cond.laysStatic "GridTable$Sort" "KEY" "LGridTable$Sort;") ∈ lw_tbl := lw_at lw_m3 131 rfl
theorem q724 : (Jvm.Cond.laysStatic "GridTable$Sort" "NAME" "LGridTable$Sort;") ∈ lw_tbl := lw_at lw_m3 133 rfl
theorem q726 : (Jvm.Cond.laysStatic "GridTable$Sort" "NUMBER" "LGridTable$Sort;") ∈ lw_tbl := lw_at lw_m3 135 rfl
theorem q779 : (Jvm.Cond.laysStatic "GridTable$Sort" "SYMBOL" "LGridTable$Sort;") ∈ lw_tbl := lw_at lw_m3 188 rfl
theorem q825 : (Jvm.Cond.selects "GridTable$Sort" ({ cls := "java/lang/Object", name := "getClass", desc := "()Ljava/lang/Class;" } : Jvm.MethodName) ({ cls := "java/lang/Object", name := "getClass", desc := "()Ljava/lang/Class;" } : Jvm.MethodName)) ∈ lw_all := lw_g (lw_at lw_m3 234 rfl) rfl
theorem q864 : (Jvm.Cond.laysStatic "GridTable$Sort" "END" "LGridTable$Sort;") ∈ lw_tbl := lw_at lw_m4 33 rfl
theorem q1054 : (Jvm.Cond.selects "GridTable$Sort" ({ cls := "java/lang/Object", name := "hashCode", desc := "()I" } : Jvm.MethodName) ({ cls := "java/lang/Enum", name := "hashCode", desc := "()I" } : Jvm.MethodName)) ∈ lw_all := lw_g (lw_at lw_m4 223 rfl) rfl
theorem q1166 : (Jvm.Cond.selects "GridTable$Sort" ({ cls := "java/lang/Object", name := "equals", desc := "(Ljava/lang/Object;)Z" } : Jvm.MethodName) ({ cls := "java/lang/Enum", name := "equals", desc := "(Ljava/lang/Object;)Z" } : Jvm.MethodName)) ∈ lw_all := lw_g (lw_at lw_m5 95 rfl) rfl
theorem q1244 : (Jvm.Cond.selects "GridTable$Sort" ({ cls := "java/lang/Enum", name := "compareTo", desc := "(Ljava/lang/Enum;)I" } : Jvm.MethodName) ({ cls := "java/lang/Enum", name := "compareTo", desc := "(Ljava/lang/Enum;)I" } : Jvm.MethodName)) ∈ lw_all := lw_g (lw_at lw_m5 173 rfl) rfl
theorem q1263 : (Jvm.Cond.selects "GridTable$Sort" ({ cls := "java/lang/Enum", name := "getDeclaringClass", desc := "()Ljava/lang/Class;" } : Jvm.MethodName) ({ cls := "java/lang/Enum", name := "getDeclaringClass", desc := "()Ljava/lang/Class;" } : Jvm.MethodName)) ∈ lw_all := lw_g (lw_at lw_m5 192 rfl) rfl
theorem q1295 : (Jvm.Cond.castable "GridTable$Sort" "java/lang/Comparable") ∈ lw_tbl := lw_at lw_m5 224 rfl
theorem q1296 : (Jvm.Cond.selects "GridTable$Sort" ({ cls := "java/lang/Comparable", name := "compareTo", desc := "(Ljava/lang/Object;)I" } : Jvm.MethodName) ({ cls := "java/lang/Enum", name := "compareTo", desc := "(Ljava/lang/Object;)I" } : Jvm.MethodName)) ∈ lw_all := lw_g (lw_at lw_m5 225 rfl) rfl
theorem q1297 : (Jvm.Cond.unhidden "GridTable$Sort" "compareTo" "(Ljava/lang/Object;)I") ∈ lw_tbl := lw_at lw_m5 226 rfl
theorem q3316 : (Jvm.Cond.castable "GridTable$Sort" "java/lang/Enum") ∈ lw_tbl := lw_at lw_m14 85 rfl
theorem q3340 : (Jvm.Cond.castable "GridTable$Sort" "java/lang/Object") ∈ lw_tbl := lw_at lw_m14 109 rfl

theorem q138 : (Jvm.Cond.initialized "java/lang/System") ∈ lw_all := lw_g (lw_at lw_m1 27 rfl) rfl
set_option maxRecDepth 100000
theorem q446 : (Jvm.Cond.static ({ cls := "java/lang/System", name := "arraycopy", desc := "(Ljava/lang/Object;ILjava/lang/Object;II)V" } : Jvm.MethodName)) ∈ lw_all := lw_g (lw_at lw_m2 95 rfl) rfl
theorem q447 : (Jvm.Cond.native ({ cls := "java/lang/System", name := "arraycopy", desc := "(Ljava/lang/Object;ILjava/lang/Object;II)V" } : Jvm.MethodName)) ∈ lw_all := lw_g (lw_at lw_m2 96 rfl) rfl
theorem q1035 : (Jvm.Cond.static ({ cls := "java/lang/System", name := "identityHashCode", desc := "(Ljava/lang/Object;)I" } : Jvm.MethodName)) ∈ lw_all := lw_g (lw_at lw_m4 204 rfl) rfl
theorem q1036 : (Jvm.Cond.native ({ cls := "java/lang/System", name := "identityHashCode", desc := "(Ljava/lang/Object;)I" } : Jvm.MethodName)) ∈ lw_all := lw_g (lw_at lw_m4 205 rfl) rfl

theorem q149 : (Jvm.Cond.initialized "jdk/internal/misc/UnsafeConstants") ∈ lw_all := lw_g (lw_at lw_m1 38 rfl) rfl
set_option maxRecDepth 100000
theorem q1376 : (Jvm.Cond.laysStatic "jdk/internal/misc/UnsafeConstants" "BIG_ENDIAN" "Z") ∈ lw_tbl := lw_at lw_m6 65 rfl

theorem q154 : (Jvm.Cond.initialized "java/lang/Integer$IntegerCache") ∈ lw_all := lw_g (lw_at lw_m1 43 rfl) rfl
set_option maxRecDepth 100000
theorem q1580 : (Jvm.Cond.laysStatic "java/lang/Integer$IntegerCache" "high" "I") ∈ lw_tbl := lw_at lw_m7 29 rfl
theorem q1582 : (Jvm.Cond.laysStatic "java/lang/Integer$IntegerCache" "cache" "[Ljava/lang/Integer;") ∈ lw_tbl := lw_at lw_m7 31 rfl

theorem q156 : (Jvm.Cond.initialized "GridTable$What") ∈ lw_all := lw_g (lw_at lw_m1 45 rfl) rfl
set_option maxRecDepth 100000
theorem q1614 : (Jvm.Cond.laysStatic "GridTable$What" "ALL" "[LGridTable$What;") ∈ lw_tbl := lw_at lw_m7 63 rfl
theorem q1696 : (Jvm.Cond.declares ({ cls := "GridTable$What", name := "of", desc := "(LGridTable$Table;I)I" } : Jvm.MethodName)) ∈ lw_tbl := lw_at lw_m7 145 rfl
theorem q1697 : (Jvm.Cond.sameMethod "GridTable$What" "GridTable$What" "of" "(LGridTable$Table;I)I") ∈ lw_all := lw_g (lw_at lw_m7 146 rfl) rfl
theorem q3328 : (Jvm.Cond.castable "GridTable$What" "java/lang/Object") ∈ lw_tbl := lw_at lw_m14 97 rfl
theorem q3419 : (Jvm.Cond.laysStatic "GridTable$What" "X" "LGridTable$What;") ∈ lw_tbl := lw_at lw_m14 188 rfl
theorem q3420 : (Jvm.Cond.laysStatic "GridTable$What" "Y" "LGridTable$What;") ∈ lw_tbl := lw_at lw_m14 189 rfl
theorem q3421 : (Jvm.Cond.laysStatic "GridTable$What" "AREA" "LGridTable$What;") ∈ lw_tbl := lw_at lw_m14 190 rfl
theorem q3448 : (Jvm.Cond.stringRef "GridTable$What" (43 : Nat) "x") ∈ lw_tbl := lw_at lw_m14 217 rfl
theorem q3449 : (Jvm.Cond.stringRef "GridTable$What" (56 : Nat) "y") ∈ lw_tbl := lw_at lw_m14 218 rfl
theorem q3450 : (Jvm.Cond.stringRef "GridTable$What" (62 : Nat) "area") ∈ lw_tbl := lw_at lw_m14 219 rfl

theorem q158 : (Jvm.Cond.initialized "GridTable$Kind") ∈ lw_all := lw_g (lw_at lw_m1 47 rfl) rfl
set_option maxRecDepth 100000
theorem q814 : (Jvm.Cond.selects "GridTable$Kind" ({ cls := "java/lang/Object", name := "getClass", desc := "()Ljava/lang/Class;" } : Jvm.MethodName) ({ cls := "java/lang/Object", name := "getClass", desc := "()Ljava/lang/Class;" } : Jvm.MethodName)) ∈ lw_all := lw_g (lw_at lw_m3 223 rfl) rfl
theorem q1043 : (Jvm.Cond.selects "GridTable$Kind" ({ cls := "java/lang/Object", name := "hashCode", desc := "()I" } : Jvm.MethodName) ({ cls := "java/lang/Enum", name := "hashCode", desc := "()I" } : Jvm.MethodName)) ∈ lw_all := lw_g (lw_at lw_m4 212 rfl) rfl
theorem q1155 : (Jvm.Cond.selects "GridTable$Kind" ({ cls := "java/lang/Object", name := "equals", desc := "(Ljava/lang/Object;)Z" } : Jvm.MethodName) ({ cls := "java/lang/Enum", name := "equals", desc := "(Ljava/lang/Object;)Z" } : Jvm.MethodName)) ∈ lw_all := lw_g (lw_at lw_m5 84 rfl) rfl
theorem q1237 : (Jvm.Cond.selects "GridTable$Kind" ({ cls := "java/lang/Enum", name := "compareTo", desc := "(Ljava/lang/Enum;)I" } : Jvm.MethodName) ({ cls := "java/lang/Enum", name := "compareTo", desc := "(Ljava/lang/Enum;)I" } : Jvm.MethodName)) ∈ lw_all := lw_g (lw_at lw_m5 166 rfl) rfl
theorem q1256 : (Jvm.Cond.selects "GridTable$Kind" ({ cls := "java/lang/Enum", name := "getDeclaringClass", desc := "()Ljava/lang/Class;" } : Jvm.MethodName) ({ cls := "java/lang/Enum", name := "getDeclaringClass", desc := "()Ljava/lang/Class;" } : Jvm.MethodName)) ∈ lw_all := lw_g (lw_at lw_m5 185 rfl) rfl
theorem q1274 : (Jvm.Cond.castable "GridTable$Kind" "java/lang/Comparable") ∈ lw_tbl := lw_at lw_m5 203 rfl
theorem q1275 : (Jvm.Cond.selects "GridTable$Kind" ({ cls := "java/lang/Comparable", name := "compareTo", desc := "(Ljava/lang/Object;)I" } : Jvm.MethodName) ({ cls := "java/lang/Enum", name := "compareTo", desc := "(Ljava/lang/Object;)I" } : Jvm.MethodName)) ∈ lw_all := lw_g (lw_at lw_m5 204 rfl) rfl
theorem q1276 : (Jvm.Cond.unhidden "GridTable$Kind" "compareTo" "(Ljava/lang/Object;)I") ∈ lw_tbl := lw_at lw_m5 205 rfl
theorem q1622 : (Jvm.Cond.laysStatic "GridTable$Kind" "NOTHING" "LGridTable$Kind;") ∈ lw_tbl := lw_at lw_m7 71 rfl
theorem q1624 : (Jvm.Cond.laysStatic "GridTable$Kind" "POINT" "LGridTable$Kind;") ∈ lw_tbl := lw_at lw_m7 73 rfl
theorem q3309 : (Jvm.Cond.castable "GridTable$Kind" "java/lang/Enum") ∈ lw_tbl := lw_at lw_m14 78 rfl
theorem q3354 : (Jvm.Cond.castable "GridTable$Kind" "java/lang/Object") ∈ lw_tbl := lw_at lw_m14 123 rfl
theorem q3451 : (Jvm.Cond.laysStatic "GridTable$Kind" "SHAPE" "LGridTable$Kind;") ∈ lw_tbl := lw_at lw_m14 220 rfl

theorem q160 : (Jvm.Cond.initialized "GridTable$Sign") ∈ lw_all := lw_g (lw_at lw_m1 49 rfl) rfl
set_option maxRecDepth 100000
theorem q1652 : (Jvm.Cond.laysStatic "GridTable$Sign" "LEAST" "LGridTable$Sign;") ∈ lw_tbl := lw_at lw_m7 101 rfl
theorem q1654 : (Jvm.Cond.laysStatic "GridTable$Sign" "MOST_OF" "LGridTable$Sign;") ∈ lw_tbl := lw_at lw_m7 103 rfl
theorem q1681 : (Jvm.Cond.laysStatic "GridTable$Sign" "TIMES" "LGridTable$Sign;") ∈ lw_tbl := lw_at lw_m7 130 rfl
theorem q1683 : (Jvm.Cond.laysStatic "GridTable$Sign" "PARTED" "LGridTable$Sign;") ∈ lw_tbl := lw_at lw_m7 132 rfl
theorem q1686 : (Jvm.Cond.laysStatic "GridTable$Sign" "PLUS" "LGridTable$Sign;") ∈ lw_tbl := lw_at lw_m7 135 rfl
theorem q1688 : (Jvm.Cond.laysStatic "GridTable$Sign" "MINUS" "LGridTable$Sign;") ∈ lw_tbl := lw_at lw_m7 137 rfl
theorem q1762 : (Jvm.Cond.declares ({ cls := "GridTable$Sign", name := "join", desc := "(II)I" } : Jvm.MethodName)) ∈ lw_tbl := lw_at lw_m7 211 rfl
theorem q1763 : (Jvm.Cond.sameMethod "GridTable$Sign" "GridTable$Sign" "join" "(II)I") ∈ lw_all := lw_g (lw_at lw_m7 212 rfl) rfl
theorem q3383 : (Jvm.Cond.castable "GridTable$Sign" "java/lang/Object") ∈ lw_tbl := lw_at lw_m14 152 rfl
theorem q3422 : (Jvm.Cond.stringRef "GridTable$Sign" (74 : Nat) "min") ∈ lw_tbl := lw_at lw_m14 191 rfl
theorem q3423 : (Jvm.Cond.stringRef "GridTable$Sign" (80 : Nat) "max") ∈ lw_tbl := lw_at lw_m14 192 rfl
theorem q3424 : (Jvm.Cond.stringRef "GridTable$Sign" (62 : Nat) "*") ∈ lw_tbl := lw_at lw_m14 193 rfl
theorem q3425 : (Jvm.Cond.stringRef "GridTable$Sign" (68 : Nat) "/") ∈ lw_tbl := lw_at lw_m14 194 rfl
theorem q3426 : (Jvm.Cond.stringRef "GridTable$Sign" (48 : Nat) "+") ∈ lw_tbl := lw_at lw_m14 195 rfl
theorem q3427 : (Jvm.Cond.stringRef "GridTable$Sign" (56 : Nat) "-") ∈ lw_tbl := lw_at lw_m14 196 rfl

theorem q166 : (Jvm.Cond.initialized "GridTable$Deed") ∈ lw_all := lw_g (lw_at lw_m1 55 rfl) rfl
set_option maxRecDepth 100000
theorem q2022 : (Jvm.Cond.laysStatic "GridTable$Deed" "MOVE" "LGridTable$Deed;") ∈ lw_tbl := lw_at lw_m8 231 rfl
theorem q2025 : (Jvm.Cond.laysStatic "GridTable$Deed" "TURN" "LGridTable$Deed;") ∈ lw_tbl := lw_at lw_m8 234 rfl
theorem q2027 : (Jvm.Cond.laysStatic "GridTable$Deed" "FLIP" "LGridTable$Deed;") ∈ lw_tbl := lw_at lw_m8 236 rfl
theorem q2268 : (Jvm.Cond.declares ({ cls := "GridTable$Deed", name := "carry", desc := "(LGridTable$Table;LGridTable$Step;)V" } : Jvm.MethodName)) ∈ lw_tbl := lw_at lw_m9 237 rfl
theorem q2269 : (Jvm.Cond.sameMethod "GridTable$Deed" "GridTable$Deed" "carry" "(LGridTable$Table;LGridTable$Step;)V") ∈ lw_all := lw_g (lw_at lw_m9 238 rfl) rfl
theorem q2486 : (Jvm.Cond.sameMethod "GridTable$Deed" "java/lang/Enum" "ordinal" "()I") ∈ lw_all := lw_g (lw_at lw_m10 215 rfl) rfl
theorem q3382 : (Jvm.Cond.castable "GridTable$Deed" "java/lang/Object") ∈ lw_tbl := lw_at lw_m14 151 rfl

theorem q436 : (Jvm.Cond.sameMethod "[B" "java/lang/Object" "clone" "()Ljava/lang/Object;") ∈ lw_all := lw_g (lw_at lw_m2 85 rfl) rfl
set_option maxRecDepth 100000
theorem q439 : (Jvm.Cond.selects "[B" ({ cls := "[B", name := "clone", desc := "()Ljava/lang/Object;" } : Jvm.MethodName) ({ cls := "java/lang/Object", name := "clone", desc := "()Ljava/lang/Object;" } : Jvm.MethodName)) ∈ lw_all := lw_g (lw_at lw_m2 88 rfl) rfl
theorem q440 : (Jvm.Cond.castable "[B" "java/lang/Cloneable") ∈ lw_tbl := lw_at lw_m2 89 rfl
theorem q3384 : (Jvm.Cond.castable "[B" "java/lang/Object") ∈ lw_tbl := lw_at lw_m14 153 rfl

theorem q939 : (Jvm.Cond.interfaceMethod "java/util/List" "java/util/List" "get" "(I)Ljava/lang/Object;") ∈ lw_tbl := lw_at lw_m4 108 rfl
set_option maxRecDepth 100000
theorem q940 : (Jvm.Cond.declares ({ cls := "java/util/List", name := "get", desc := "(I)Ljava/lang/Object;" } : Jvm.MethodName)) ∈ lw_tbl := lw_at lw_m4 109 rfl
theorem q1959 : (Jvm.Cond.interfaceMethod "java/util/List" "java/util/List" "size" "()I") ∈ lw_tbl := lw_at lw_m8 168 rfl
theorem q1960 : (Jvm.Cond.declares ({ cls := "java/util/List", name := "size", desc := "()I" } : Jvm.MethodName)) ∈ lw_tbl := lw_at lw_m8 169 rfl
theorem q1966 : (Jvm.Cond.interfaceMethod "java/util/List" "java/util/List" "contains" "(Ljava/lang/Object;)Z") ∈ lw_tbl := lw_at lw_m8 175 rfl
theorem q1967 : (Jvm.Cond.declares ({ cls := "java/util/List", name := "contains", desc := "(Ljava/lang/Object;)Z" } : Jvm.MethodName)) ∈ lw_tbl := lw_at lw_m8 176 rfl
theorem q1984 : (Jvm.Cond.interfaceMethod "java/util/List" "java/util/List" "add" "(Ljava/lang/Object;)Z") ∈ lw_tbl := lw_at lw_m8 193 rfl
theorem q1985 : (Jvm.Cond.declares ({ cls := "java/util/List", name := "add", desc := "(Ljava/lang/Object;)Z" } : Jvm.MethodName)) ∈ lw_tbl := lw_at lw_m8 194 rfl
theorem q2472 : (Jvm.Cond.interfaceMethod "java/util/List" "java/util/List" "iterator" "()Ljava/util/Iterator;") ∈ lw_tbl := lw_at lw_m10 201 rfl
theorem q2473 : (Jvm.Cond.declares ({ cls := "java/util/List", name := "iterator", desc := "()Ljava/util/Iterator;" } : Jvm.MethodName)) ∈ lw_tbl := lw_at lw_m10 202 rfl

theorem q1098 : (Jvm.Cond.interfaceMethod "jdk/internal/access/JavaLangAccess" "jdk/internal/access/JavaLangAccess" "getUTF16Char" "([BI)C") ∈ lw_tbl := lw_at lw_m5 27 rfl
set_option maxRecDepth 100000
theorem q1099 : (Jvm.Cond.declares ({ cls := "jdk/internal/access/JavaLangAccess", name := "getUTF16Char", desc := "([BI)C" } : Jvm.MethodName)) ∈ lw_tbl := lw_at lw_m5 28 rfl

theorem q1222 : (Jvm.Cond.interfaceMethod "java/lang/Comparable" "java/lang/Comparable" "compareTo" "(Ljava/lang/Object;)I") ∈ lw_tbl := lw_at lw_m5 151 rfl
set_option maxRecDepth 100000
theorem q1223 : (Jvm.Cond.declares ({ cls := "java/lang/Comparable", name := "compareTo", desc := "(Ljava/lang/Object;)I" } : Jvm.MethodName)) ∈ lw_tbl := lw_at lw_m5 152 rfl

theorem q2329 : (Jvm.Cond.interfaceMethod "java/util/Iterator" "java/util/Iterator" "hasNext" "()Z") ∈ lw_tbl := lw_at lw_m10 58 rfl
set_option maxRecDepth 100000
theorem q2330 : (Jvm.Cond.declares ({ cls := "java/util/Iterator", name := "hasNext", desc := "()Z" } : Jvm.MethodName)) ∈ lw_tbl := lw_at lw_m10 59 rfl
theorem q2339 : (Jvm.Cond.interfaceMethod "java/util/Iterator" "java/util/Iterator" "next" "()Ljava/lang/Object;") ∈ lw_tbl := lw_at lw_m10 68 rfl
theorem q2340 : (Jvm.Cond.declares ({ cls := "java/util/Iterator", name := "next", desc := "()Ljava/lang/Object;" } : Jvm.MethodName)) ∈ lw_tbl := lw_at lw_m10 69 rfl

theorem q2696 : (Jvm.Cond.interfaceMethod "java/util/Collection" "java/util/Collection" "toArray" "()[Ljava/lang/Object;") ∈ lw_tbl := lw_at lw_m11 185 rfl
set_option maxRecDepth 100000
theorem q2697 : (Jvm.Cond.declares ({ cls := "java/util/Collection", name := "toArray", desc := "()[Ljava/lang/Object;" } : Jvm.MethodName)) ∈ lw_tbl := lw_at lw_m11 186 rfl

theorem q3379 : (Jvm.Cond.sameMethod "[Ljava/lang/Object;" "java/lang/Object" "getClass" "()Ljava/lang/Class;") ∈ lw_all := lw_g (lw_at lw_m14 148 rfl) rfl
set_option maxRecDepth 100000
theorem q3380 : (Jvm.Cond.selects "[Ljava/lang/Object;" ({ cls := "java/lang/Object", name := "getClass", desc := "()Ljava/lang/Class;" } : Jvm.MethodName) ({ cls := "java/lang/Object", name := "getClass", desc := "()Ljava/lang/Class;" } : Jvm.MethodName)) ∈ lw_all := lw_g (lw_at lw_m14 149 rfl) rfl
theorem q3386 : (Jvm.Cond.castable "[Ljava/lang/Object;" "java/lang/Object") ∈ lw_tbl := lw_at lw_m14 155 rfl

theorem q3385 : (Jvm.Cond.castable "[I" "java/lang/Object") ∈ lw_tbl := lw_at lw_m14 154 rfl
set_option maxRecDepth 100000

theorem q3387 : (Jvm.Cond.castable "[Ljava/util/HashMap$Node;" "java/lang/Object") ∈ lw_tbl := lw_at lw_m14 156 rfl
set_option maxRecDepth 100000

theorem q3388 : (Jvm.Cond.castable "[Ljava/lang/String;" "java/lang/Object") ∈ lw_tbl := lw_at lw_m14 157 rfl
set_option maxRecDepth 100000

theorem q3389 : (Jvm.Cond.castable "[LGridTableModel$Places;" "java/lang/Object") ∈ lw_tbl := lw_at lw_m14 158 rfl
set_option maxRecDepth 100000

theorem q3390 : (Jvm.Cond.castable "[J" "java/lang/Object") ∈ lw_tbl := lw_at lw_m14 159 rfl
set_option maxRecDepth 100000

theorem q3391 : (Jvm.Cond.castable "[LGridTable$What;" "java/lang/Object") ∈ lw_tbl := lw_at lw_m14 160 rfl
set_option maxRecDepth 100000

