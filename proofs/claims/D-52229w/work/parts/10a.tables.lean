set_option maxRecDepth 100000
def xCode (I : xI) : Cond := match iT I with
  | [] => .code (iY I) (iC I) (iL I) (iR I)
  | _ => .codeWith (iY I) (iC I) (iL I) (iR I) (iT I)
def TX24e : u_T := fun _ => ("", "", "", false)
def TEn0 : u_T := fun k => match k with
  | _ => ("java/lang/Enum", "ordinal", "I", true)
def TEn1 : u_T := fun k => match k with
  | 0 => ("java/lang/Enum", "ordinal", "I", true)
  | _ => ("GridTable$Sign", "word", "Ljava/lang/String;", true)
def TEn2 : u_T := fun k => match k with
  | 0 => ("java/lang/Enum", "ordinal", "I", true)
  | 1 => ("GridTable$What", "word", "Ljava/lang/String;", true)
  | _ => ("GridTable$What", "kind", "LGridTable$Kind;", true)
/-- the classes whose objects are met: by number -/
abbrev CL : List vw_C := [(RX1, TX1, 4), (RX2, TX2, 2), (RX3, TX3, 7), (RJ2, TJ2, 3), (RX7, TX7, 7), (RX8, TX8, 2), (RX9, TX9, 3), (RJ10, TJ10, 4), (RJ11, TJ11, 4), (RJ7, TJ7, 6), (RJ3, TJ3, 5), (RJ22, TJ22, 8), (RX10, TX10, 8), (RX12, TX12, 1), (RJ26, TJ26, 1), (RJ19, TJ19, 1), (RX13, TX13, 2), (RX14, TX14, 2), (RX15, TX15, 1), (RX16, TX16, 3), (RX17, TX17, 2), (RJ27, TJ27, 4), (RJ29, TJ29, 11), (RX18, TX18, 6), (RX19, TX19, 2), (RX20, TX20, 1), (RX21, TX21, 2), (RX22, TX22, 3), (RX24, TX24e, 0), (RJ32, TJ32, 4), (RJ30, TJ30, 6), (RJ6, TJ6, 6), (RJ31, TJ31, 6), (RX4, TX4, 19), (RX5, TX5, 13), (RX6, TX6, 2), ("GridTable$Deed$1", TEn0, 1), ("GridTable$Deed$2", TEn0, 1), ("GridTable$Deed$3", TEn0, 1), ("GridTable$Sign$1", TEn1, 2), ("GridTable$Sign$2", TEn1, 2), ("GridTable$Sign$3", TEn1, 2), ("GridTable$Sign$4", TEn1, 2), ("GridTable$Sign$5", TEn1, 2), ("GridTable$Sign$6", TEn1, 2), ("GridTable$What$1", TEn2, 3), ("GridTable$What$2", TEn2, 3), ("GridTable$What$3", TEn2, 3), ("GridTable$Kind", TEn0, 1), ("GridTable$Sort", TEn0, 1), ("jdk/internal/misc/Unsafe", TX24e, 0)]
def xCF (ci : Nat) : Prop := ∃ (C : String) (T : u_T) (N : Nat) (ty : Nat → FieldType), CL[ci]? = some (C, T, N) ∧ (∀ w ∈ u_ws C T N, w ∈ lw_all) ∧ (∀ k, k < N → parseFieldDescriptor (T k).2.2.1 = some (ty k)) ∧ (∀ a, a < N → ∀ b, b < N → a ≠ b → (T a).2.1 ≠ (T b).2.1)
theorem xCF_0 : xCF 0 := ⟨_, _, _, tyX1, rfl, in_X1, tyX1_ok, nmX1⟩
theorem xCF_1 : xCF 1 := ⟨_, _, _, tyX2, rfl, in_X2, tyX2_ok, nmX2⟩
theorem xCF_2 : xCF 2 := ⟨_, _, _, tyX3, rfl, in_X3, tyX3_ok, nmX3⟩
theorem xCF_3 : xCF 3 := ⟨_, _, _, tyJ2, rfl, in_J2, tyJ2_ok, nmJ2⟩
theorem xCF_4 : xCF 4 := ⟨_, _, _, tyX7, rfl, in_X7, tyX7_ok, nmX7⟩
theorem xCF_5 : xCF 5 := ⟨_, _, _, tyX8, rfl, in_X8, tyX8_ok, nmX8⟩
theorem xCF_6 : xCF 6 := ⟨_, _, _, tyX9, rfl, in_X9, tyX9_ok, nmX9⟩
theorem xCF_7 : xCF 7 := ⟨_, _, _, tyJ10, rfl, in_J10, tyJ10_ok, nmJ10⟩
theorem xCF_8 : xCF 8 := ⟨_, _, _, tyJ11, rfl, in_J11, tyJ11_ok, nmJ11⟩
theorem xCF_9 : xCF 9 := ⟨_, _, _, tyJ7, rfl, in_J7, tyJ7_ok, nmJ7⟩
theorem xCF_10 : xCF 10 := ⟨_, _, _, tyJ3, rfl, in_J3, tyJ3_ok, nmJ3⟩
theorem xCF_11 : xCF 11 := ⟨_, _, _, tyJ22, rfl, in_J22, tyJ22_ok, nmJ22⟩
theorem xCF_12 : xCF 12 := ⟨_, _, _, tyX10, rfl, in_X10, tyX10_ok, nmX10⟩
theorem xCF_13 : xCF 13 := ⟨_, _, _, tyX12, rfl, in_X12, tyX12_ok, nmX12⟩
theorem xCF_14 : xCF 14 := ⟨_, _, _, tyJ26, rfl, in_J26, tyJ26_ok, nmJ26⟩
theorem xCF_15 : xCF 15 := ⟨_, _, _, tyJ19, rfl, in_J19, tyJ19_ok, nmJ19⟩
theorem xCF_16 : xCF 16 := ⟨_, _, _, tyX13, rfl, in_X13, tyX13_ok, nmX13⟩
theorem xCF_17 : xCF 17 := ⟨_, _, _, tyX14, rfl, in_X14, tyX14_ok, nmX14⟩
theorem xCF_18 : xCF 18 := ⟨_, _, _, tyX15, rfl, in_X15, tyX15_ok, nmX15⟩
theorem xCF_19 : xCF 19 := ⟨_, _, _, tyX16, rfl, in_X16, tyX16_ok, nmX16⟩
theorem xCF_20 : xCF 20 := ⟨_, _, _, tyX17, rfl, in_X17, tyX17_ok, nmX17⟩
theorem xCF_21 : xCF 21 := ⟨_, _, _, tyJ27, rfl, in_J27, tyJ27_ok, nmJ27⟩
theorem xCF_22 : xCF 22 := ⟨_, _, _, tyJ29, rfl, in_J29, tyJ29_ok, nmJ29⟩
theorem xCF_23 : xCF 23 := ⟨_, _, _, tyX18, rfl, in_X18, tyX18_ok, nmX18⟩
theorem xCF_24 : xCF 24 := ⟨_, _, _, tyX19, rfl, in_X19, tyX19_ok, nmX19⟩
theorem xCF_25 : xCF 25 := ⟨_, _, _, tyX20, rfl, in_X20, tyX20_ok, nmX20⟩
theorem xCF_26 : xCF 26 := ⟨_, _, _, tyX21, rfl, in_X21, tyX21_ok, nmX21⟩
theorem xCF_27 : xCF 27 := ⟨_, _, _, tyX22, rfl, in_X22, tyX22_ok, nmX22⟩
theorem xCF_28 : xCF 28 := ⟨_, _, _, (fun _ => .int), rfl, (fun w h => by cases h), (fun k h => absurd h (Nat.not_lt_zero k)), (fun a h => absurd h (Nat.not_lt_zero a))⟩
theorem xCF_29 : xCF 29 := ⟨_, _, _, tyJ32, rfl, in_J32, tyJ32_ok, nmJ32⟩
theorem xCF_30 : xCF 30 := ⟨_, _, _, tyJ30, rfl, in_J30, tyJ30_ok, nmJ30⟩
theorem xCF_31 : xCF 31 := ⟨_, _, _, tyJ6, rfl, in_J6, tyJ6_ok, nmJ6⟩
theorem xCF_32 : xCF 32 := ⟨_, _, _, tyJ31, rfl, in_J31, tyJ31_ok, nmJ31⟩
theorem xCF_33 : xCF 33 := ⟨_, _, _, tyX4, rfl, in_X4, tyX4_ok, nmX4⟩
theorem xCF_34 : xCF 34 := ⟨_, _, _, tyX5, rfl, in_X5, tyX5_ok, nmX5⟩
theorem xCF_35 : xCF 35 := ⟨_, _, _, tyX6, rfl, in_X6, tyX6_ok, nmX6⟩
theorem xCF_all : ∀ ci, ci < 36 → xCF ci := by
  intro ci h
  match ci, h with
  | 0, _ => exact xCF_0
  | 1, _ => exact xCF_1
  | 2, _ => exact xCF_2
  | 3, _ => exact xCF_3
  | 4, _ => exact xCF_4
  | 5, _ => exact xCF_5
  | 6, _ => exact xCF_6
  | 7, _ => exact xCF_7
  | 8, _ => exact xCF_8
  | 9, _ => exact xCF_9
  | 10, _ => exact xCF_10
  | 11, _ => exact xCF_11
  | 12, _ => exact xCF_12
  | 13, _ => exact xCF_13
  | 14, _ => exact xCF_14
  | 15, _ => exact xCF_15
  | 16, _ => exact xCF_16
  | 17, _ => exact xCF_17
  | 18, _ => exact xCF_18
  | 19, _ => exact xCF_19
  | 20, _ => exact xCF_20
  | 21, _ => exact xCF_21
  | 22, _ => exact xCF_22
  | 23, _ => exact xCF_23
  | 24, _ => exact xCF_24
  | 25, _ => exact xCF_25
  | 26, _ => exact xCF_26
  | 27, _ => exact xCF_27
  | 28, _ => exact xCF_28
  | 29, _ => exact xCF_29
  | 30, _ => exact xCF_30
  | 31, _ => exact xCF_31
  | 32, _ => exact xCF_32
  | 33, _ => exact xCF_33
  | 34, _ => exact xCF_34
  | 35, _ => exact xCF_35
  | n + 36, h => exact absurd h (by omega)
/-- the classes with code, by number -/
def ocL : List String := ["GridTable", "GridTable$Asked", "GridTable$Compared", "GridTable$Crossings", "GridTable$Deed$1", "GridTable$Deed$2", "GridTable$Deed$3", "GridTable$Denied", "GridTable$Fault", "GridTable$Inside", "GridTable$Joined", "GridTable$Plain", "GridTable$Reader", "GridTable$Scanner", "GridTable$Several", "GridTable$Sign$1", "GridTable$Sign$2", "GridTable$Sign$3", "GridTable$Sign$4", "GridTable$Sign$5", "GridTable$Sign$6", "GridTable$Step", "GridTable$Sum", "GridTable$Table", "GridTable$Table$Shape", "GridTable$Tape", "GridTable$Test", "GridTable$Test$1", "GridTable$Token", "GridTable$Turned", "GridTable$What$1", "GridTable$What$2", "GridTable$What$3", "GridTableLaw", "GridTableModel", "GridTableModel$Places", "GridTableModel$Sheet", "java/lang/AbstractStringBuilder", "java/lang/ArrayIndexOutOfBoundsException", "java/lang/Character", "java/lang/Enum", "java/lang/Exception", "java/lang/IllegalArgumentException", "java/lang/IllegalStateException", "java/lang/IndexOutOfBoundsException", "java/lang/Integer", "java/lang/Long", "java/lang/Math", "java/lang/Number", "java/lang/Object", "java/lang/RuntimeException", "java/lang/String", "java/lang/StringBuilder", "java/lang/StringLatin1", "java/lang/StringUTF16", "java/lang/System$2", "java/lang/Throwable", "java/util/AbstractCollection", "java/util/AbstractList", "java/util/AbstractMap", "java/util/ArrayList", "java/util/ArrayList$Itr", "java/util/Arrays", "java/util/HashMap", "java/util/HashMap$Node", "java/util/HashMap$TreeNode", "java/util/LinkedHashMap$Entry", "java/util/Objects", "java/util/Optional", "jdk/internal/misc/Unsafe", "jdk/internal/util/ArraysSupport", "jdk/internal/util/Preconditions"]
def ocN (n : Nat) : String := ocL.getD n ""
def ST : List (String × String × String) := [("java/util/ArrayList", "DEFAULTCAPACITY_EMPTY_ELEMENTDATA", "[Ljava/lang/Object;"), ("GridTable$Sort", "BAD", "LGridTable$Sort;"), ("java/lang/String", "COMPACT_STRINGS", "Z"), ("jdk/internal/util/Preconditions", "SIOOBE_FORMATTER", "Ljava/util/function/BiFunction;"), ("java/lang/StringUTF16", "$assertionsDisabled", "Z"), ("java/lang/StringUTF16", "HI_BYTE_SHIFT", "I"), ("java/lang/StringUTF16", "LO_BYTE_SHIFT", "I"), ("java/lang/Throwable", "UNASSIGNED_STACK", "[Ljava/lang/StackTraceElement;"), ("java/lang/Throwable", "SUPPRESSED_SENTINEL", "Ljava/util/List;"), ("java/lang/Integer", "DigitOnes", "[B"), ("java/lang/Integer", "DigitTens", "[B"), ("GridTable$Scanner", "KEYS", "[Ljava/lang/String;"), ("GridTable$Sort", "KEY", "LGridTable$Sort;"), ("GridTable$Sort", "NAME", "LGridTable$Sort;"), ("GridTable$Sort", "NUMBER", "LGridTable$Sort;"), ("GridTable$Sort", "SYMBOL", "LGridTable$Sort;"), ("GridTable$Sort", "END", "LGridTable$Sort;"), ("jdk/internal/util/ArraysSupport", "JLA", "Ljdk/internal/access/JavaLangAccess;"), ("jdk/internal/misc/Unsafe", "ARRAY_BYTE_BASE_OFFSET", "I"), ("jdk/internal/util/ArraysSupport", "LOG2_ARRAY_BYTE_INDEX_SCALE", "I"), ("jdk/internal/util/ArraysSupport", "LOG2_ARRAY_LONG_INDEX_SCALE", "I"), ("jdk/internal/util/ArraysSupport", "U", "Ljdk/internal/misc/Unsafe;"), ("jdk/internal/misc/UnsafeConstants", "BIG_ENDIAN", "Z"), ("jdk/internal/util/ArraysSupport", "BIG_ENDIAN", "Z"), ("jdk/internal/util/ArraysSupport", "LOG2_BYTE_BIT_SIZE", "I"), ("jdk/internal/util/ArraysSupport", "LOG2_ARRAY_INT_INDEX_SCALE", "I"), ("java/util/Optional", "EMPTY", "Ljava/util/Optional;"), ("java/lang/Integer$IntegerCache", "high", "I"), ("java/lang/Integer$IntegerCache", "cache", "[Ljava/lang/Integer;"), ("GridTable$What", "ALL", "[LGridTable$What;"), ("GridTable$Kind", "NOTHING", "LGridTable$Kind;"), ("GridTable$Kind", "POINT", "LGridTable$Kind;"), ("GridTable$Sign", "LEAST", "LGridTable$Sign;"), ("GridTable$Sign", "MOST_OF", "LGridTable$Sign;"), ("GridTable$Sign", "TIMES", "LGridTable$Sign;"), ("GridTable$Sign", "PARTED", "LGridTable$Sign;"), ("GridTable$Sign", "PLUS", "LGridTable$Sign;"), ("GridTable$Sign", "MINUS", "LGridTable$Sign;"), ("java/util/HashMap$TreeNode", "$assertionsDisabled", "Z"), ("GridTable$Deed", "MOVE", "LGridTable$Deed;"), ("GridTable$Deed", "TURN", "LGridTable$Deed;"), ("GridTable$Deed", "FLIP", "LGridTable$Deed;"), ("GridTableModel", "WORDS", "[Ljava/lang/String;"), ("GridTable$What", "X", "LGridTable$What;"), ("GridTable$What", "Y", "LGridTable$What;"), ("GridTable$What", "AREA", "LGridTable$What;"), ("GridTable$Kind", "SHAPE", "LGridTable$Kind;")]
def TX : List (String × Nat × String) := [("GridTable$Reader", 141, "point"), ("GridTable$Reader", 145, "shape"), ("GridTable$Reader", 153, ";"), ("GridTable$Reader", 159, "at"), ("GridTable$Reader", 164, ","), ("GridTable$Reader", 180, "of"), ("GridTable$Reader", 214, "move"), ("GridTable$Reader", 222, "turn"), ("GridTable$Reader", 230, "flip"), ("GridTable$Reader", 235, "by"), ("GridTable$Reader", 237, "round"), ("GridTable$Reader", 247, "when"), ("GridTable$Reader", 272, "or"), ("GridTable$Reader", 277, "and"), ("GridTable$Reader", 279, "not"), ("GridTable$Reader", 289, "["), ("GridTable$Reader", 291, "]"), ("GridTable$Reader", 296, "inside"), ("GridTable$Reader", 304, "<>="), ("GridTable$Reader", 324, "+"), ("GridTable$Reader", 326, "-"), ("GridTable$Reader", 345, "*"), ("GridTable$Reader", 347, "/"), ("GridTable$Reader", 369, "crosses"), ("GridTable$Reader", 407, "("), ("GridTable$Reader", 409, ")"), ("GridTable$Scanner", 75, ""), ("GridTable$Scanner", 104, "()[];,+-*/<>="), ("GridTable$Scanner", 112, "point"), ("GridTable$Scanner", 114, "at"), ("GridTable$Scanner", 115, "shape"), ("GridTable$Scanner", 117, "of"), ("GridTable$Scanner", 119, "move"), ("GridTable$Scanner", 121, "by"), ("GridTable$Scanner", 123, "turn"), ("GridTable$Scanner", 125, "round"), ("GridTable$Scanner", 127, "flip"), ("GridTable$Scanner", 129, "when"), ("GridTable$Scanner", 131, "x"), ("GridTable$Scanner", 133, "y"), ("GridTable$Scanner", 135, "area"), ("GridTable$Scanner", 137, "crosses"), ("GridTable$Scanner", 139, "inside"), ("GridTable$Scanner", 141, "not"), ("GridTable$Scanner", 143, "and"), ("GridTable$Scanner", 145, "or"), ("GridTable$Scanner", 147, "min"), ("GridTable$Scanner", 149, "max"), ("GridTable$Sign", 48, "+"), ("GridTable$Sign", 56, "-"), ("GridTable$Sign", 62, "*"), ("GridTable$Sign", 68, "/"), ("GridTable$Sign", 74, "min"), ("GridTable$Sign", 80, "max"), ("GridTable$What", 43, "x"), ("GridTable$What", 56, "y"), ("GridTable$What", 62, "area"), ("GridTableModel", 242, ",;()[]+-*/<>="), ("GridTableModel", 457, "point"), ("GridTableModel", 459, "at"), ("GridTableModel", 461, "shape"), ("GridTableModel", 463, "of"), ("GridTableModel", 465, "move"), ("GridTableModel", 467, "by"), ("GridTableModel", 469, "turn"), ("GridTableModel", 471, "round"), ("GridTableModel", 473, "flip"), ("GridTableModel", 475, "when"), ("GridTableModel", 477, "x"), ("GridTableModel", 478, "y"), ("GridTableModel", 479, "area"), ("GridTableModel", 481, "crosses"), ("GridTableModel", 483, "inside"), ("GridTableModel", 485, "not"), ("GridTableModel", 487, "and"), ("GridTableModel", 489, "or"), ("GridTableModel", 491, "min"), ("GridTableModel", 492, "max"), ("java/util/Arrays", 337, " > "), ("jdk/internal/util/ArraysSupport", 92, "unrecognized basic type: ")]
def xF (oc idx ci k : Nat) (ty : FieldType) (fin : Bool) : Prop := ∃ (ref C : String) (T : u_T) (N : Nat), CL[ci]? = some (C, T, N) ∧ k < N ∧ (Cond.fieldLink (ocN oc) idx ref (T k).2.1 (T k).2.2.1 ∈ lw_all ∨ ∃ host, Cond.fieldLinkNest (ocN oc) idx ref (T k).2.1 (T k).2.2.1 host ∈ lw_tbl) ∧ (ref = (T k).1 ∨ Cond.sameField ref (T k).1 (T k).2.1 (T k).2.2.1 ∈ lw_all) ∧ parseFieldDescriptor (T k).2.2.1 = some ty ∧ (T k).2.2.2 = fin
def flT0 : List (Nat × Nat × Nat × FieldType × Bool) := [(60, 0, 0, (.object "GridTable$Tape"), true), (64, 0, 1, .int, false), (71, 0, 2, (.object "GridTable$Table"), false), (75, 0, 3, (.object "GridTable$Table"), true), (78, 1, 1, .int, false), (111, 12, 6, .int, true), (114, 12, 7, .int, true), (117, 2, 6, .int, false), (120, 2, 2, (.object "java/util/ArrayList"), true), (127, 2, 3, (.object "java/util/ArrayList"), true), (130, 2, 4, (.array .int), true), (134, 2, 5, (.object "java/util/ArrayList"), true), (146, 2, 0, (.array .int), true), (149, 2, 1, (.array .int), true), (172, 20, 0, (.array .int), true), (259, 23, 0, (.object "GridTable$Deed"), true), (268, 23, 1, .int, true), (271, 23, 2, .int, true), (274, 23, 5, (.object "GridTable$Test"), true)]
theorem flp0_0 : xF 0 60 0 0 (.object "GridTable$Tape") true := ⟨_, _, _, _, rfl, by decide, Or.inl q286, Or.inl rfl, by decide +kernel, rfl⟩
theorem flp0_1 : xF 0 64 0 1 .int false := ⟨_, _, _, _, rfl, by decide, Or.inl q287, Or.inl rfl, by decide +kernel, rfl⟩
theorem flp0_2 : xF 0 71 0 2 (.object "GridTable$Table") false := ⟨_, _, _, _, rfl, by decide, Or.inl q288, Or.inl rfl, by decide +kernel, rfl⟩
theorem flp0_3 : xF 0 75 0 3 (.object "GridTable$Table") true := ⟨_, _, _, _, rfl, by decide, Or.inl q289, Or.inl rfl, by decide +kernel, rfl⟩
theorem flp0_4 : xF 0 78 1 1 .int false := ⟨_, _, _, _, rfl, by decide, Or.inr ⟨_, q194⟩, Or.inl rfl, by decide +kernel, rfl⟩
theorem flp0_5 : xF 0 111 12 6 .int true := ⟨_, _, _, _, rfl, by decide, Or.inr ⟨_, q1003⟩, Or.inl rfl, by decide +kernel, rfl⟩
theorem flp0_6 : xF 0 114 12 7 .int true := ⟨_, _, _, _, rfl, by decide, Or.inr ⟨_, q1005⟩, Or.inl rfl, by decide +kernel, rfl⟩
theorem flp0_7 : xF 0 117 2 6 .int false := ⟨_, _, _, _, rfl, by decide, Or.inr ⟨_, q269⟩, Or.inl rfl, by decide +kernel, rfl⟩
theorem flp0_8 : xF 0 120 2 2 (.object "java/util/ArrayList") true := ⟨_, _, _, _, rfl, by decide, Or.inr ⟨_, q259⟩, Or.inl rfl, by decide +kernel, rfl⟩
theorem flp0_9 : xF 0 127 2 3 (.object "java/util/ArrayList") true := ⟨_, _, _, _, rfl, by decide, Or.inr ⟨_, q262⟩, Or.inl rfl, by decide +kernel, rfl⟩
theorem flp0_10 : xF 0 130 2 4 (.array .int) true := ⟨_, _, _, _, rfl, by decide, Or.inr ⟨_, q265⟩, Or.inl rfl, by decide +kernel, rfl⟩
theorem flp0_11 : xF 0 134 2 5 (.object "java/util/ArrayList") true := ⟨_, _, _, _, rfl, by decide, Or.inr ⟨_, q267⟩, Or.inl rfl, by decide +kernel, rfl⟩
theorem flp0_12 : xF 0 146 2 0 (.array .int) true := ⟨_, _, _, _, rfl, by decide, Or.inr ⟨_, q244⟩, Or.inl rfl, by decide +kernel, rfl⟩
theorem flp0_13 : xF 0 149 2 1 (.array .int) true := ⟨_, _, _, _, rfl, by decide, Or.inr ⟨_, q252⟩, Or.inl rfl, by decide +kernel, rfl⟩
theorem flp0_14 : xF 0 172 20 0 (.array .int) true := ⟨_, _, _, _, rfl, by decide, Or.inr ⟨_, q2008⟩, Or.inl rfl, by decide +kernel, rfl⟩
theorem flp0_15 : xF 0 259 23 0 (.object "GridTable$Deed") true := ⟨_, _, _, _, rfl, by decide, Or.inr ⟨_, q2134⟩, Or.inl rfl, by decide +kernel, rfl⟩
theorem flp0_16 : xF 0 268 23 1 .int true := ⟨_, _, _, _, rfl, by decide, Or.inr ⟨_, q2139⟩, Or.inl rfl, by decide +kernel, rfl⟩
theorem flp0_17 : xF 0 271 23 2 .int true := ⟨_, _, _, _, rfl, by decide, Or.inr ⟨_, q2143⟩, Or.inl rfl, by decide +kernel, rfl⟩
theorem flp0_18 : xF 0 274 23 5 (.object "GridTable$Test") true := ⟨_, _, _, _, rfl, by decide, Or.inr ⟨_, q2150⟩, Or.inl rfl, by decide +kernel, rfl⟩
theorem flo0 : ∀ e ∈ flT0, xF 0 e.1 e.2.1 e.2.2.1 e.2.2.2.1 e.2.2.2.2 := List.forall_mem_cons.mpr ⟨flp0_0, List.forall_mem_cons.mpr ⟨flp0_1, List.forall_mem_cons.mpr ⟨flp0_2, List.forall_mem_cons.mpr ⟨flp0_3, List.forall_mem_cons.mpr ⟨flp0_4, List.forall_mem_cons.mpr ⟨flp0_5, List.forall_mem_cons.mpr ⟨flp0_6, List.forall_mem_cons.mpr ⟨flp0_7, List.forall_mem_cons.mpr ⟨flp0_8, List.forall_mem_cons.mpr ⟨flp0_9, List.forall_mem_cons.mpr ⟨flp0_10, List.forall_mem_cons.mpr ⟨flp0_11, List.forall_mem_cons.mpr ⟨flp0_12, List.forall_mem_cons.mpr ⟨flp0_13, List.forall_mem_cons.mpr ⟨flp0_14, List.forall_mem_cons.mpr ⟨flp0_15, List.forall_mem_cons.mpr ⟨flp0_16, List.forall_mem_cons.mpr ⟨flp0_17, List.forall_mem_cons.mpr ⟨flp0_18, (fun _ h => by cases h)⟩⟩⟩⟩⟩⟩⟩⟩⟩⟩⟩⟩⟩⟩⟩⟩⟩⟩⟩
def flT1 : List (Nat × Nat × Nat × FieldType × Bool) := [(7, 17, 0, (.object "GridTable$What"), true), (13, 17, 1, .int, true)]
theorem flp1_0 : xF 1 7 17 0 (.object "GridTable$What") true := ⟨_, _, _, _, rfl, by decide, Or.inl q1629, Or.inl rfl, by decide +kernel, rfl⟩
theorem flp1_1 : xF 1 13 17 1 .int true := ⟨_, _, _, _, rfl, by decide, Or.inl q1630, Or.inl rfl, by decide +kernel, rfl⟩
theorem flo1 : ∀ e ∈ flT1, xF 1 e.1 e.2.1 e.2.2.1 e.2.2.2.1 e.2.2.2.2 := List.forall_mem_cons.mpr ⟨flp1_0, List.forall_mem_cons.mpr ⟨flp1_1, (fun _ h => by cases h)⟩⟩
def flT2 : List (Nat × Nat × Nat × FieldType × Bool) := [(7, 27, 0, (.object "java/lang/String"), true), (13, 27, 1, (.object "GridTable$Sum"), true), (17, 27, 2, (.object "GridTable$Sum"), true)]
theorem flp2_0 : xF 2 7 27 0 (.object "java/lang/String") true := ⟨_, _, _, _, rfl, by decide, Or.inl q2106, Or.inl rfl, by decide +kernel, rfl⟩
theorem flp2_1 : xF 2 13 27 1 (.object "GridTable$Sum") true := ⟨_, _, _, _, rfl, by decide, Or.inl q2107, Or.inl rfl, by decide +kernel, rfl⟩
theorem flp2_2 : xF 2 17 27 2 (.object "GridTable$Sum") true := ⟨_, _, _, _, rfl, by decide, Or.inl q2108, Or.inl rfl, by decide +kernel, rfl⟩
theorem flo2 : ∀ e ∈ flT2, xF 2 e.1 e.2.1 e.2.2.1 e.2.2.2.1 e.2.2.2.2 := List.forall_mem_cons.mpr ⟨flp2_0, List.forall_mem_cons.mpr ⟨flp2_1, List.forall_mem_cons.mpr ⟨flp2_2, (fun _ h => by cases h)⟩⟩⟩
def flT3 : List (Nat × Nat × Nat × FieldType × Bool) := [(7, 16, 0, .int, true), (13, 16, 1, .int, true), (16, 2, 2, (.object "java/util/ArrayList"), true)]
theorem flp3_0 : xF 3 7 16 0 .int true := ⟨_, _, _, _, rfl, by decide, Or.inl q1606, Or.inl rfl, by decide +kernel, rfl⟩
theorem flp3_1 : xF 3 13 16 1 .int true := ⟨_, _, _, _, rfl, by decide, Or.inl q1607, Or.inl rfl, by decide +kernel, rfl⟩
theorem flp3_2 : xF 3 16 2 2 (.object "java/util/ArrayList") true := ⟨_, _, _, _, rfl, by decide, Or.inr ⟨_, q255⟩, Or.inl rfl, by decide +kernel, rfl⟩
theorem flo3 : ∀ e ∈ flT3, xF 3 e.1 e.2.1 e.2.2.1 e.2.2.2.1 e.2.2.2.2 := List.forall_mem_cons.mpr ⟨flp3_0, List.forall_mem_cons.mpr ⟨flp3_1, List.forall_mem_cons.mpr ⟨flp3_2, (fun _ h => by cases h)⟩⟩⟩
def flT4 : List (Nat × Nat × Nat × FieldType × Bool) := [(7, 23, 3, (.object "java/util/Optional"), true), (25, 23, 4, (.object "java/util/Optional"), true), (28, 23, 1, .int, true), (32, 2, 0, (.array .int), true), (38, 2, 1, (.array .int), true)]
theorem flp4_0 : xF 4 7 23 3 (.object "java/util/Optional") true := ⟨_, _, _, _, rfl, by decide, Or.inr ⟨_, q2145⟩, Or.inl rfl, by decide +kernel, rfl⟩
theorem flp4_1 : xF 4 25 23 4 (.object "java/util/Optional") true := ⟨_, _, _, _, rfl, by decide, Or.inr ⟨_, q2147⟩, Or.inl rfl, by decide +kernel, rfl⟩
theorem flp4_2 : xF 4 28 23 1 .int true := ⟨_, _, _, _, rfl, by decide, Or.inr ⟨_, q2138⟩, Or.inl rfl, by decide +kernel, rfl⟩
theorem flp4_3 : xF 4 32 2 0 (.array .int) true := ⟨_, _, _, _, rfl, by decide, Or.inr ⟨_, q242⟩, Or.inl rfl, by decide +kernel, rfl⟩
theorem flp4_4 : xF 4 38 2 1 (.array .int) true := ⟨_, _, _, _, rfl, by decide, Or.inr ⟨_, q249⟩, Or.inl rfl, by decide +kernel, rfl⟩
theorem flo4 : ∀ e ∈ flT4, xF 4 e.1 e.2.1 e.2.2.1 e.2.2.2.1 e.2.2.2.2 := List.forall_mem_cons.mpr ⟨flp4_0, List.forall_mem_cons.mpr ⟨flp4_1, List.forall_mem_cons.mpr ⟨flp4_2, List.forall_mem_cons.mpr ⟨flp4_3, List.forall_mem_cons.mpr ⟨flp4_4, (fun _ h => by cases h)⟩⟩⟩⟩⟩
def flT5 : List (Nat × Nat × Nat × FieldType × Bool) := [(7, 2, 0, (.array .int), true), (13, 23, 2, .int, true), (19, 2, 1, (.array .int), true), (22, 2, 2, (.object "java/util/ArrayList"), true), (26, 23, 1, .int, true), (37, 20, 0, (.array .int), true)]
theorem flp5_0 : xF 5 7 2 0 (.array .int) true := ⟨_, _, _, _, rfl, by decide, Or.inr ⟨_, q239⟩, Or.inl rfl, by decide +kernel, rfl⟩
theorem flp5_1 : xF 5 13 23 2 .int true := ⟨_, _, _, _, rfl, by decide, Or.inr ⟨_, q2141⟩, Or.inl rfl, by decide +kernel, rfl⟩
theorem flp5_2 : xF 5 19 2 1 (.array .int) true := ⟨_, _, _, _, rfl, by decide, Or.inr ⟨_, q247⟩, Or.inl rfl, by decide +kernel, rfl⟩
theorem flp5_3 : xF 5 22 2 2 (.object "java/util/ArrayList") true := ⟨_, _, _, _, rfl, by decide, Or.inr ⟨_, q258⟩, Or.inl rfl, by decide +kernel, rfl⟩
theorem flp5_4 : xF 5 26 23 1 .int true := ⟨_, _, _, _, rfl, by decide, Or.inr ⟨_, q2137⟩, Or.inl rfl, by decide +kernel, rfl⟩
theorem flp5_5 : xF 5 37 20 0 (.array .int) true := ⟨_, _, _, _, rfl, by decide, Or.inr ⟨_, q2006⟩, Or.inl rfl, by decide +kernel, rfl⟩
theorem flo5 : ∀ e ∈ flT5, xF 5 e.1 e.2.1 e.2.2.1 e.2.2.2.1 e.2.2.2.2 := List.forall_mem_cons.mpr ⟨flp5_0, List.forall_mem_cons.mpr ⟨flp5_1, List.forall_mem_cons.mpr ⟨flp5_2, List.forall_mem_cons.mpr ⟨flp5_3, List.forall_mem_cons.mpr ⟨flp5_4, List.forall_mem_cons.mpr ⟨flp5_5, (fun _ h => by cases h)⟩⟩⟩⟩⟩⟩
def flT6 : List (Nat × Nat × Nat × FieldType × Bool) := [(7, 2, 0, (.array .int), true), (13, 23, 2, .int, true), (19, 2, 2, (.object "java/util/ArrayList"), true), (23, 23, 1, .int, true), (34, 20, 0, (.array .int), true), (37, 2, 1, (.array .int), true)]
theorem flp6_0 : xF 6 7 2 0 (.array .int) true := ⟨_, _, _, _, rfl, by decide, Or.inr ⟨_, q240⟩, Or.inl rfl, by decide +kernel, rfl⟩
theorem flp6_1 : xF 6 13 23 2 .int true := ⟨_, _, _, _, rfl, by decide, Or.inr ⟨_, q2142⟩, Or.inl rfl, by decide +kernel, rfl⟩
theorem flp6_2 : xF 6 19 2 2 (.object "java/util/ArrayList") true := ⟨_, _, _, _, rfl, by decide, Or.inr ⟨_, q257⟩, Or.inl rfl, by decide +kernel, rfl⟩
theorem flp6_3 : xF 6 23 23 1 .int true := ⟨_, _, _, _, rfl, by decide, Or.inr ⟨_, q2136⟩, Or.inl rfl, by decide +kernel, rfl⟩
theorem flp6_4 : xF 6 34 20 0 (.array .int) true := ⟨_, _, _, _, rfl, by decide, Or.inr ⟨_, q2005⟩, Or.inl rfl, by decide +kernel, rfl⟩
theorem flp6_5 : xF 6 37 2 1 (.array .int) true := ⟨_, _, _, _, rfl, by decide, Or.inr ⟨_, q250⟩, Or.inl rfl, by decide +kernel, rfl⟩
theorem flo6 : ∀ e ∈ flT6, xF 6 e.1 e.2.1 e.2.2.1 e.2.2.2.1 e.2.2.2.2 := List.forall_mem_cons.mpr ⟨flp6_0, List.forall_mem_cons.mpr ⟨flp6_1, List.forall_mem_cons.mpr ⟨flp6_2, List.forall_mem_cons.mpr ⟨flp6_3, List.forall_mem_cons.mpr ⟨flp6_4, List.forall_mem_cons.mpr ⟨flp6_5, (fun _ h => by cases h)⟩⟩⟩⟩⟩⟩
def flT7 : List (Nat × Nat × Nat × FieldType × Bool) := [(7, 25, 0, (.object "GridTable$Test"), true)]
theorem flp7_0 : xF 7 7 25 0 (.object "GridTable$Test") true := ⟨_, _, _, _, rfl, by decide, Or.inl q2076, Or.inl rfl, by decide +kernel, rfl⟩
theorem flo7 : ∀ e ∈ flT7, xF 7 e.1 e.2.1 e.2.2.1 e.2.2.2.1 e.2.2.2.2 := List.forall_mem_cons.mpr ⟨flp7_0, (fun _ h => by cases h)⟩
def flT8 : List (Nat × Nat × Nat × FieldType × Bool) := [(7, 12, 6, .int, true), (13, 12, 7, .int, true)]
theorem flp8_0 : xF 8 7 12 6 .int true := ⟨_, _, _, _, rfl, by decide, Or.inl q1002, Or.inl rfl, by decide +kernel, rfl⟩
theorem flp8_1 : xF 8 13 12 7 .int true := ⟨_, _, _, _, rfl, by decide, Or.inl q1004, Or.inl rfl, by decide +kernel, rfl⟩
theorem flo8 : ∀ e ∈ flT8, xF 8 e.1 e.2.1 e.2.2.1 e.2.2.2.1 e.2.2.2.2 := List.forall_mem_cons.mpr ⟨flp8_0, List.forall_mem_cons.mpr ⟨flp8_1, (fun _ h => by cases h)⟩⟩
def flT9 : List (Nat × Nat × Nat × FieldType × Bool) := [(7, 26, 0, .int, true), (13, 26, 1, .int, true), (16, 2, 2, (.object "java/util/ArrayList"), true), (30, 2, 0, (.array .int), true), (34, 2, 1, (.array .int), true)]
theorem flp9_0 : xF 9 7 26 0 .int true := ⟨_, _, _, _, rfl, by decide, Or.inl q2089, Or.inl rfl, by decide +kernel, rfl⟩
theorem flp9_1 : xF 9 13 26 1 .int true := ⟨_, _, _, _, rfl, by decide, Or.inl q2090, Or.inl rfl, by decide +kernel, rfl⟩
theorem flp9_2 : xF 9 16 2 2 (.object "java/util/ArrayList") true := ⟨_, _, _, _, rfl, by decide, Or.inr ⟨_, q256⟩, Or.inl rfl, by decide +kernel, rfl⟩
theorem flp9_3 : xF 9 30 2 0 (.array .int) true := ⟨_, _, _, _, rfl, by decide, Or.inr ⟨_, q241⟩, Or.inl rfl, by decide +kernel, rfl⟩
theorem flp9_4 : xF 9 34 2 1 (.array .int) true := ⟨_, _, _, _, rfl, by decide, Or.inr ⟨_, q248⟩, Or.inl rfl, by decide +kernel, rfl⟩
theorem flo9 : ∀ e ∈ flT9, xF 9 e.1 e.2.1 e.2.2.1 e.2.2.2.1 e.2.2.2.2 := List.forall_mem_cons.mpr ⟨flp9_0, List.forall_mem_cons.mpr ⟨flp9_1, List.forall_mem_cons.mpr ⟨flp9_2, List.forall_mem_cons.mpr ⟨flp9_3, List.forall_mem_cons.mpr ⟨flp9_4, (fun _ h => by cases h)⟩⟩⟩⟩⟩
def flT10 : List (Nat × Nat × Nat × FieldType × Bool) := [(7, 19, 0, (.object "GridTable$Sign"), true), (13, 19, 1, (.object "GridTable$Sum"), true), (17, 19, 2, (.object "GridTable$Sum"), true)]
theorem flp10_0 : xF 10 7 19 0 (.object "GridTable$Sign") true := ⟨_, _, _, _, rfl, by decide, Or.inl q1663, Or.inl rfl, by decide +kernel, rfl⟩
theorem flp10_1 : xF 10 13 19 1 (.object "GridTable$Sum") true := ⟨_, _, _, _, rfl, by decide, Or.inl q1664, Or.inl rfl, by decide +kernel, rfl⟩
theorem flp10_2 : xF 10 17 19 2 (.object "GridTable$Sum") true := ⟨_, _, _, _, rfl, by decide, Or.inl q1665, Or.inl rfl, by decide +kernel, rfl⟩
theorem flo10 : ∀ e ∈ flT10, xF 10 e.1 e.2.1 e.2.2.1 e.2.2.2.1 e.2.2.2.2 := List.forall_mem_cons.mpr ⟨flp10_0, List.forall_mem_cons.mpr ⟨flp10_1, List.forall_mem_cons.mpr ⟨flp10_2, (fun _ h => by cases h)⟩⟩⟩
def flT11 : List (Nat × Nat × Nat × FieldType × Bool) := [(7, 13, 0, .int, true)]
theorem flp11_0 : xF 11 7 13 0 .int true := ⟨_, _, _, _, rfl, by decide, Or.inl q1547, Or.inl rfl, by decide +kernel, rfl⟩
theorem flo11 : ∀ e ∈ flT11, xF 11 e.1 e.2.1 e.2.2.1 e.2.2.2.1 e.2.2.2.2 := List.forall_mem_cons.mpr ⟨flp11_0, (fun _ h => by cases h)⟩
def flT12 : List (Nat × Nat × Nat × FieldType × Bool) := [(12, 4, 4, (.object "GridTable$Table"), false), (21, 4, 5, (.object "java/util/HashMap"), true), (25, 4, 6, (.object "java/util/HashMap"), true), (28, 4, 0, (.object "java/util/List"), true), (32, 4, 1, .int, false), (50, 6, 2, .int, true), (65, 6, 0, (.object "GridTable$Sort"), true), (69, 4, 2, .int, false), (79, 4, 3, .boolean, false), (91, 6, 1, (.object "java/lang/String"), true), (166, 2, 6, .int, false), (189, 2, 2, (.object "java/util/ArrayList"), true), (232, 2, 3, (.object "java/util/ArrayList"), true), (266, 24, 1, (.object "java/util/ArrayList"), true), (380, 45, 1, (.object "java/lang/String"), true), (380, 46, 1, (.object "java/lang/String"), true), (380, 47, 1, (.object "java/lang/String"), true), (385, 45, 2, (.object "GridTable$Kind"), true), (385, 46, 2, (.object "GridTable$Kind"), true), (385, 47, 2, (.object "GridTable$Kind"), true), (403, 39, 1, (.object "java/lang/String"), true), (403, 40, 1, (.object "java/lang/String"), true), (403, 41, 1, (.object "java/lang/String"), true), (403, 42, 1, (.object "java/lang/String"), true), (403, 43, 1, (.object "java/lang/String"), true), (403, 44, 1, (.object "java/lang/String"), true)]
theorem flp12_0 : xF 12 12 4 4 (.object "GridTable$Table") false := ⟨_, _, _, _, rfl, by decide, Or.inl q907, Or.inl rfl, by decide +kernel, rfl⟩
theorem flp12_1 : xF 12 21 4 5 (.object "java/util/HashMap") true := ⟨_, _, _, _, rfl, by decide, Or.inl q908, Or.inl rfl, by decide +kernel, rfl⟩
theorem flp12_2 : xF 12 25 4 6 (.object "java/util/HashMap") true := ⟨_, _, _, _, rfl, by decide, Or.inl q909, Or.inl rfl, by decide +kernel, rfl⟩
theorem flp12_3 : xF 12 28 4 0 (.object "java/util/List") true := ⟨_, _, _, _, rfl, by decide, Or.inl q903, Or.inl rfl, by decide +kernel, rfl⟩
theorem flp12_4 : xF 12 32 4 1 .int false := ⟨_, _, _, _, rfl, by decide, Or.inl q904, Or.inl rfl, by decide +kernel, rfl⟩
theorem flp12_5 : xF 12 50 6 2 .int true := ⟨_, _, _, _, rfl, by decide, Or.inr ⟨_, q356⟩, Or.inl rfl, by decide +kernel, rfl⟩
theorem flp12_6 : xF 12 65 6 0 (.object "GridTable$Sort") true := ⟨_, _, _, _, rfl, by decide, Or.inr ⟨_, q350⟩, Or.inl rfl, by decide +kernel, rfl⟩
theorem flp12_7 : xF 12 69 4 2 .int false := ⟨_, _, _, _, rfl, by decide, Or.inl q905, Or.inl rfl, by decide +kernel, rfl⟩
theorem flp12_8 : xF 12 79 4 3 .boolean false := ⟨_, _, _, _, rfl, by decide, Or.inl q906, Or.inl rfl, by decide +kernel, rfl⟩
theorem flp12_9 : xF 12 91 6 1 (.object "java/lang/String") true := ⟨_, _, _, _, rfl, by decide, Or.inr ⟨_, q354⟩, Or.inl rfl, by decide +kernel, rfl⟩
theorem flp12_10 : xF 12 166 2 6 .int false := ⟨_, _, _, _, rfl, by decide, Or.inr ⟨_, q270⟩, Or.inl rfl, by decide +kernel, rfl⟩
theorem flp12_11 : xF 12 189 2 2 (.object "java/util/ArrayList") true := ⟨_, _, _, _, rfl, by decide, Or.inr ⟨_, q260⟩, Or.inl rfl, by decide +kernel, rfl⟩
theorem flp12_12 : xF 12 232 2 3 (.object "java/util/ArrayList") true := ⟨_, _, _, _, rfl, by decide, Or.inr ⟨_, q263⟩, Or.inl rfl, by decide +kernel, rfl⟩
theorem flp12_13 : xF 12 266 24 1 (.object "java/util/ArrayList") true := ⟨_, _, _, _, rfl, by decide, Or.inr ⟨_, q2055⟩, Or.inl rfl, by decide +kernel, rfl⟩
theorem flp12_14 : xF 12 380 45 1 (.object "java/lang/String") true := ⟨_, _, _, _, rfl, by decide, Or.inr ⟨_, q3396⟩, Or.inl rfl, by decide +kernel, rfl⟩
theorem flp12_15 : xF 12 380 46 1 (.object "java/lang/String") true := ⟨_, _, _, _, rfl, by decide, Or.inr ⟨_, q3396⟩, Or.inl rfl, by decide +kernel, rfl⟩
theorem flp12_16 : xF 12 380 47 1 (.object "java/lang/String") true := ⟨_, _, _, _, rfl, by decide, Or.inr ⟨_, q3396⟩, Or.inl rfl, by decide +kernel, rfl⟩
theorem flp12_17 : xF 12 385 45 2 (.object "GridTable$Kind") true := ⟨_, _, _, _, rfl, by decide, Or.inr ⟨_, q3397⟩, Or.inl rfl, by decide +kernel, rfl⟩
theorem flp12_18 : xF 12 385 46 2 (.object "GridTable$Kind") true := ⟨_, _, _, _, rfl, by decide, Or.inr ⟨_, q3397⟩, Or.inl rfl, by decide +kernel, rfl⟩
theorem flp12_19 : xF 12 385 47 2 (.object "GridTable$Kind") true := ⟨_, _, _, _, rfl, by decide, Or.inr ⟨_, q3397⟩, Or.inl rfl, by decide +kernel, rfl⟩
theorem flp12_20 : xF 12 403 39 1 (.object "java/lang/String") true := ⟨_, _, _, _, rfl, by decide, Or.inr ⟨_, q3398⟩, Or.inl rfl, by decide +kernel, rfl⟩
theorem flp12_21 : xF 12 403 40 1 (.object "java/lang/String") true := ⟨_, _, _, _, rfl, by decide, Or.inr ⟨_, q3398⟩, Or.inl rfl, by decide +kernel, rfl⟩
theorem flp12_22 : xF 12 403 41 1 (.object "java/lang/String") true := ⟨_, _, _, _, rfl, by decide, Or.inr ⟨_, q3398⟩, Or.inl rfl, by decide +kernel, rfl⟩
theorem flp12_23 : xF 12 403 42 1 (.object "java/lang/String") true := ⟨_, _, _, _, rfl, by decide, Or.inr ⟨_, q3398⟩, Or.inl rfl, by decide +kernel, rfl⟩
theorem flp12_24 : xF 12 403 43 1 (.object "java/lang/String") true := ⟨_, _, _, _, rfl, by decide, Or.inr ⟨_, q3398⟩, Or.inl rfl, by decide +kernel, rfl⟩
theorem flp12_25 : xF 12 403 44 1 (.object "java/lang/String") true := ⟨_, _, _, _, rfl, by decide, Or.inr ⟨_, q3398⟩, Or.inl rfl, by decide +kernel, rfl⟩
theorem flo12 : ∀ e ∈ flT12, xF 12 e.1 e.2.1 e.2.2.1 e.2.2.2.1 e.2.2.2.2 := List.forall_mem_cons.mpr ⟨flp12_0, List.forall_mem_cons.mpr ⟨flp12_1, List.forall_mem_cons.mpr ⟨flp12_2, List.forall_mem_cons.mpr ⟨flp12_3, List.forall_mem_cons.mpr ⟨flp12_4, List.forall_mem_cons.mpr ⟨flp12_5, List.forall_mem_cons.mpr ⟨flp12_6, List.forall_mem_cons.mpr ⟨flp12_7, List.forall_mem_cons.mpr ⟨flp12_8, List.forall_mem_cons.mpr ⟨flp12_9, List.forall_mem_cons.mpr ⟨flp12_10, List.forall_mem_cons.mpr ⟨flp12_11, List.forall_mem_cons.mpr ⟨flp12_12, List.forall_mem_cons.mpr ⟨flp12_13, List.forall_mem_cons.mpr ⟨flp12_14, List.forall_mem_cons.mpr ⟨flp12_15, List.forall_mem_cons.mpr ⟨flp12_16, List.forall_mem_cons.mpr ⟨flp12_17, List.forall_mem_cons.mpr ⟨flp12_18, List.forall_mem_cons.mpr ⟨flp12_19, List.forall_mem_cons.mpr ⟨flp12_20, List.forall_mem_cons.mpr ⟨flp12_21, List.forall_mem_cons.mpr ⟨flp12_22, List.forall_mem_cons.mpr ⟨flp12_23, List.forall_mem_cons.mpr ⟨flp12_24, List.forall_mem_cons.mpr ⟨flp12_25, (fun _ h => by cases h)⟩⟩⟩⟩⟩⟩⟩⟩⟩⟩⟩⟩⟩⟩⟩⟩⟩⟩⟩⟩⟩⟩⟩⟩⟩⟩
def flT13 : List (Nat × Nat × Nat × FieldType × Bool) := [(12, 5, 1, (.object "java/util/ArrayList"), true), (18, 5, 0, (.object "GridTable$Tape"), true), (32, 1, 1, .int, false), (53, 6, 0, (.object "GridTable$Sort"), true), (64, 6, 1, (.object "java/lang/String"), true)]
theorem flp13_0 : xF 13 12 5 1 (.object "java/util/ArrayList") true := ⟨_, _, _, _, rfl, by decide, Or.inl q315, Or.inl rfl, by decide +kernel, rfl⟩
theorem flp13_1 : xF 13 18 5 0 (.object "GridTable$Tape") true := ⟨_, _, _, _, rfl, by decide, Or.inl q314, Or.inl rfl, by decide +kernel, rfl⟩
theorem flp13_2 : xF 13 32 1 1 .int false := ⟨_, _, _, _, rfl, by decide, Or.inr ⟨_, q193⟩, Or.inl rfl, by decide +kernel, rfl⟩
theorem flp13_3 : xF 13 53 6 0 (.object "GridTable$Sort") true := ⟨_, _, _, _, rfl, by decide, Or.inr ⟨_, q351⟩, Or.inl rfl, by decide +kernel, rfl⟩
theorem flp13_4 : xF 13 64 6 1 (.object "java/lang/String") true := ⟨_, _, _, _, rfl, by decide, Or.inr ⟨_, q353⟩, Or.inl rfl, by decide +kernel, rfl⟩
theorem flo13 : ∀ e ∈ flT13, xF 13 e.1 e.2.1 e.2.2.1 e.2.2.2.1 e.2.2.2.2 := List.forall_mem_cons.mpr ⟨flp13_0, List.forall_mem_cons.mpr ⟨flp13_1, List.forall_mem_cons.mpr ⟨flp13_2, List.forall_mem_cons.mpr ⟨flp13_3, List.forall_mem_cons.mpr ⟨flp13_4, (fun _ h => by cases h)⟩⟩⟩⟩⟩
def flT14 : List (Nat × Nat × Nat × FieldType × Bool) := [(10, 24, 1, (.object "java/util/ArrayList"), true), (16, 24, 0, .boolean, true)]
theorem flp14_0 : xF 14 10 24 1 (.object "java/util/ArrayList") true := ⟨_, _, _, _, rfl, by decide, Or.inl q2054, Or.inl rfl, by decide +kernel, rfl⟩
theorem flp14_1 : xF 14 16 24 0 .boolean true := ⟨_, _, _, _, rfl, by decide, Or.inl q2053, Or.inl rfl, by decide +kernel, rfl⟩
theorem flo14 : ∀ e ∈ flT14, xF 14 e.1 e.2.1 e.2.2.1 e.2.2.2.1 e.2.2.2.2 := List.forall_mem_cons.mpr ⟨flp14_0, List.forall_mem_cons.mpr ⟨flp14_1, (fun _ h => by cases h)⟩⟩
def flT15 : List (Nat × Nat × Nat × FieldType × Bool) := []
theorem flo15 : ∀ e ∈ flT15, xF 15 e.1 e.2.1 e.2.2.1 e.2.2.2.1 e.2.2.2.2 := (fun _ h => by cases h)
def flT16 : List (Nat × Nat × Nat × FieldType × Bool) := []
theorem flo16 : ∀ e ∈ flT16, xF 16 e.1 e.2.1 e.2.2.1 e.2.2.2.1 e.2.2.2.2 := (fun _ h => by cases h)
def flT17 : List (Nat × Nat × Nat × FieldType × Bool) := []
theorem flo17 : ∀ e ∈ flT17, xF 17 e.1 e.2.1 e.2.2.1 e.2.2.2.1 e.2.2.2.2 := (fun _ h => by cases h)
def flT18 : List (Nat × Nat × Nat × FieldType × Bool) := []
theorem flo18 : ∀ e ∈ flT18, xF 18 e.1 e.2.1 e.2.2.1 e.2.2.2.1 e.2.2.2.2 := (fun _ h => by cases h)
def flT19 : List (Nat × Nat × Nat × FieldType × Bool) := []
theorem flo19 : ∀ e ∈ flT19, xF 19 e.1 e.2.1 e.2.2.1 e.2.2.2.1 e.2.2.2.2 := (fun _ h => by cases h)
def flT20 : List (Nat × Nat × Nat × FieldType × Bool) := []
theorem flo20 : ∀ e ∈ flT20, xF 20 e.1 e.2.1 e.2.2.1 e.2.2.2.1 e.2.2.2.2 := (fun _ h => by cases h)
def flT21 : List (Nat × Nat × Nat × FieldType × Bool) := [(7, 23, 0, (.object "GridTable$Deed"), true), (13, 23, 1, .int, true), (17, 23, 2, .int, true), (20, 23, 3, (.object "java/util/Optional"), true), (24, 23, 4, (.object "java/util/Optional"), true), (27, 23, 5, (.object "GridTable$Test"), true)]
theorem flp21_0 : xF 21 7 23 0 (.object "GridTable$Deed") true := ⟨_, _, _, _, rfl, by decide, Or.inl q2132, Or.inl rfl, by decide +kernel, rfl⟩
theorem flp21_1 : xF 21 13 23 1 .int true := ⟨_, _, _, _, rfl, by decide, Or.inl q2135, Or.inl rfl, by decide +kernel, rfl⟩
theorem flp21_2 : xF 21 17 23 2 .int true := ⟨_, _, _, _, rfl, by decide, Or.inl q2140, Or.inl rfl, by decide +kernel, rfl⟩
theorem flp21_3 : xF 21 20 23 3 (.object "java/util/Optional") true := ⟨_, _, _, _, rfl, by decide, Or.inl q2144, Or.inl rfl, by decide +kernel, rfl⟩
theorem flp21_4 : xF 21 24 23 4 (.object "java/util/Optional") true := ⟨_, _, _, _, rfl, by decide, Or.inl q2146, Or.inl rfl, by decide +kernel, rfl⟩
theorem flp21_5 : xF 21 27 23 5 (.object "GridTable$Test") true := ⟨_, _, _, _, rfl, by decide, Or.inl q2148, Or.inl rfl, by decide +kernel, rfl⟩
theorem flo21 : ∀ e ∈ flT21, xF 21 e.1 e.2.1 e.2.2.1 e.2.2.2.1 e.2.2.2.2 := List.forall_mem_cons.mpr ⟨flp21_0, List.forall_mem_cons.mpr ⟨flp21_1, List.forall_mem_cons.mpr ⟨flp21_2, List.forall_mem_cons.mpr ⟨flp21_3, List.forall_mem_cons.mpr ⟨flp21_4, List.forall_mem_cons.mpr ⟨flp21_5, (fun _ h => by cases h)⟩⟩⟩⟩⟩⟩
def flT22 : List (Nat × Nat × Nat × FieldType × Bool) := []
theorem flo22 : ∀ e ∈ flT22, xF 22 e.1 e.2.1 e.2.2.1 e.2.2.2.1 e.2.2.2.2 := (fun _ h => by cases h)
def flT23 : List (Nat × Nat × Nat × FieldType × Bool) := [(9, 2, 0, (.array .int), true), (15, 2, 1, (.array .int), true), (21, 2, 2, (.object "java/util/ArrayList"), true), (25, 2, 3, (.object "java/util/ArrayList"), true), (28, 2, 4, (.array .int), true), (31, 2, 5, (.object "java/util/ArrayList"), true), (57, 20, 0, (.array .int), true), (85, 2, 6, .int, false), (108, 23, 5, (.object "GridTable$Test"), true), (118, 23, 0, (.object "GridTable$Deed"), true)]
theorem flp23_0 : xF 23 9 2 0 (.array .int) true := ⟨_, _, _, _, rfl, by decide, Or.inl q237, Or.inl rfl, by decide +kernel, rfl⟩
theorem flp23_1 : xF 23 15 2 1 (.array .int) true := ⟨_, _, _, _, rfl, by decide, Or.inl q245, Or.inl rfl, by decide +kernel, rfl⟩
theorem flp23_2 : xF 23 21 2 2 (.object "java/util/ArrayList") true := ⟨_, _, _, _, rfl, by decide, Or.inl q253, Or.inl rfl, by decide +kernel, rfl⟩
theorem flp23_3 : xF 23 25 2 3 (.object "java/util/ArrayList") true := ⟨_, _, _, _, rfl, by decide, Or.inl q261, Or.inl rfl, by decide +kernel, rfl⟩
theorem flp23_4 : xF 23 28 2 4 (.array .int) true := ⟨_, _, _, _, rfl, by decide, Or.inl q264, Or.inl rfl, by decide +kernel, rfl⟩
theorem flp23_5 : xF 23 31 2 5 (.object "java/util/ArrayList") true := ⟨_, _, _, _, rfl, by decide, Or.inl q266, Or.inl rfl, by decide +kernel, rfl⟩
theorem flp23_6 : xF 23 57 20 0 (.array .int) true := ⟨_, _, _, _, rfl, by decide, Or.inr ⟨_, q2007⟩, Or.inl rfl, by decide +kernel, rfl⟩
theorem flp23_7 : xF 23 85 2 6 .int false := ⟨_, _, _, _, rfl, by decide, Or.inl q268, Or.inl rfl, by decide +kernel, rfl⟩
theorem flp23_8 : xF 23 108 23 5 (.object "GridTable$Test") true := ⟨_, _, _, _, rfl, by decide, Or.inr ⟨_, q2149⟩, Or.inl rfl, by decide +kernel, rfl⟩
theorem flp23_9 : xF 23 118 23 0 (.object "GridTable$Deed") true := ⟨_, _, _, _, rfl, by decide, Or.inr ⟨_, q2133⟩, Or.inl rfl, by decide +kernel, rfl⟩
theorem flo23 : ∀ e ∈ flT23, xF 23 e.1 e.2.1 e.2.2.1 e.2.2.2.1 e.2.2.2.2 := List.forall_mem_cons.mpr ⟨flp23_0, List.forall_mem_cons.mpr ⟨flp23_1, List.forall_mem_cons.mpr ⟨flp23_2, List.forall_mem_cons.mpr ⟨flp23_3, List.forall_mem_cons.mpr ⟨flp23_4, List.forall_mem_cons.mpr ⟨flp23_5, List.forall_mem_cons.mpr ⟨flp23_6, List.forall_mem_cons.mpr ⟨flp23_7, List.forall_mem_cons.mpr ⟨flp23_8, List.forall_mem_cons.mpr ⟨flp23_9, (fun _ h => by cases h)⟩⟩⟩⟩⟩⟩⟩⟩⟩⟩
def flT24 : List (Nat × Nat × Nat × FieldType × Bool) := [(3, 20, 1, (.object "GridTable$Table"), true), (21, 20, 0, (.array .int), true), (34, 2, 0, (.array .int), true), (39, 2, 1, (.array .int), true)]
theorem flp24_0 : xF 24 3 20 1 (.object "GridTable$Table") true := ⟨_, _, _, _, rfl, by decide, Or.inl q2009, Or.inl rfl, by decide +kernel, rfl⟩
theorem flp24_1 : xF 24 21 20 0 (.array .int) true := ⟨_, _, _, _, rfl, by decide, Or.inl q2004, Or.inl rfl, by decide +kernel, rfl⟩
theorem flp24_2 : xF 24 34 2 0 (.array .int) true := ⟨_, _, _, _, rfl, by decide, Or.inr ⟨_, q243⟩, Or.inl rfl, by decide +kernel, rfl⟩
theorem flp24_3 : xF 24 39 2 1 (.array .int) true := ⟨_, _, _, _, rfl, by decide, Or.inr ⟨_, q251⟩, Or.inl rfl, by decide +kernel, rfl⟩
theorem flo24 : ∀ e ∈ flT24, xF 24 e.1 e.2.1 e.2.2.1 e.2.2.2.1 e.2.2.2.2 := List.forall_mem_cons.mpr ⟨flp24_0, List.forall_mem_cons.mpr ⟨flp24_1, List.forall_mem_cons.mpr ⟨flp24_2, List.forall_mem_cons.mpr ⟨flp24_3, (fun _ h => by cases h)⟩⟩⟩⟩
def flT25 : List (Nat × Nat × Nat × FieldType × Bool) := [(9, 1, 0, (.array .byte), true), (15, 1, 1, .int, false)]
theorem flp25_0 : xF 25 9 1 0 (.array .byte) true := ⟨_, _, _, _, rfl, by decide, Or.inl q191, Or.inl rfl, by decide +kernel, rfl⟩
theorem flp25_1 : xF 25 15 1 1 .int false := ⟨_, _, _, _, rfl, by decide, Or.inl q192, Or.inl rfl, by decide +kernel, rfl⟩
theorem flo25 : ∀ e ∈ flT25, xF 25 e.1 e.2.1 e.2.2.1 e.2.2.2.1 e.2.2.2.2 := List.forall_mem_cons.mpr ⟨flp25_0, List.forall_mem_cons.mpr ⟨flp25_1, (fun _ h => by cases h)⟩⟩
def flT26 : List (Nat × Nat × Nat × FieldType × Bool) := []
theorem flo26 : ∀ e ∈ flT26, xF 26 e.1 e.2.1 e.2.2.1 e.2.2.2.1 e.2.2.2.2 := (fun _ h => by cases h)
def flT27 : List (Nat × Nat × Nat × FieldType × Bool) := []
theorem flo27 : ∀ e ∈ flT27, xF 27 e.1 e.2.1 e.2.2.1 e.2.2.2.1 e.2.2.2.2 := (fun _ h => by cases h)
def flT28 : List (Nat × Nat × Nat × FieldType × Bool) := [(7, 6, 0, (.object "GridTable$Sort"), true), (13, 6, 1, (.object "java/lang/String"), true), (17, 6, 2, .int, true)]
theorem flp28_0 : xF 28 7 6 0 (.object "GridTable$Sort") true := ⟨_, _, _, _, rfl, by decide, Or.inl q349, Or.inl rfl, by decide +kernel, rfl⟩
theorem flp28_1 : xF 28 13 6 1 (.object "java/lang/String") true := ⟨_, _, _, _, rfl, by decide, Or.inl q352, Or.inl rfl, by decide +kernel, rfl⟩
theorem flp28_2 : xF 28 17 6 2 .int true := ⟨_, _, _, _, rfl, by decide, Or.inl q355, Or.inl rfl, by decide +kernel, rfl⟩
theorem flo28 : ∀ e ∈ flT28, xF 28 e.1 e.2.1 e.2.2.1 e.2.2.2.1 e.2.2.2.2 := List.forall_mem_cons.mpr ⟨flp28_0, List.forall_mem_cons.mpr ⟨flp28_1, List.forall_mem_cons.mpr ⟨flp28_2, (fun _ h => by cases h)⟩⟩⟩
def flT29 : List (Nat × Nat × Nat × FieldType × Bool) := [(7, 18, 0, (.object "GridTable$Sum"), true)]
theorem flp29_0 : xF 29 7 18 0 (.object "GridTable$Sum") true := ⟨_, _, _, _, rfl, by decide, Or.inl q1647, Or.inl rfl, by decide +kernel, rfl⟩
theorem flo29 : ∀ e ∈ flT29, xF 29 e.1 e.2.1 e.2.2.1 e.2.2.2.1 e.2.2.2.2 := List.forall_mem_cons.mpr ⟨flp29_0, (fun _ h => by cases h)⟩
def flT30 : List (Nat × Nat × Nat × FieldType × Bool) := [(7, 2, 0, (.array .int), true)]
theorem flp30_0 : xF 30 7 2 0 (.array .int) true := ⟨_, _, _, _, rfl, by decide, Or.inr ⟨_, q238⟩, Or.inl rfl, by decide +kernel, rfl⟩
theorem flo30 : ∀ e ∈ flT30, xF 30 e.1 e.2.1 e.2.2.1 e.2.2.2.1 e.2.2.2.2 := List.forall_mem_cons.mpr ⟨flp30_0, (fun _ h => by cases h)⟩
def flT31 : List (Nat × Nat × Nat × FieldType × Bool) := [(7, 2, 1, (.array .int), true)]
theorem flp31_0 : xF 31 7 2 1 (.array .int) true := ⟨_, _, _, _, rfl, by decide, Or.inr ⟨_, q246⟩, Or.inl rfl, by decide +kernel, rfl⟩
theorem flo31 : ∀ e ∈ flT31, xF 31 e.1 e.2.1 e.2.2.1 e.2.2.2.1 e.2.2.2.2 := List.forall_mem_cons.mpr ⟨flp31_0, (fun _ h => by cases h)⟩
def flT32 : List (Nat × Nat × Nat × FieldType × Bool) := [(7, 2, 2, (.object "java/util/ArrayList"), true)]
theorem flp32_0 : xF 32 7 2 2 (.object "java/util/ArrayList") true := ⟨_, _, _, _, rfl, by decide, Or.inr ⟨_, q254⟩, Or.inl rfl, by decide +kernel, rfl⟩
theorem flo32 : ∀ e ∈ flT32, xF 32 e.1 e.2.1 e.2.2.1 e.2.2.2.1 e.2.2.2.2 := List.forall_mem_cons.mpr ⟨flp32_0, (fun _ h => by cases h)⟩
def flT33 : List (Nat × Nat × Nat × FieldType × Bool) := []
theorem flo33 : ∀ e ∈ flT33, xF 33 e.1 e.2.1 e.2.2.1 e.2.2.2.1 e.2.2.2.2 := (fun _ h => by cases h)
def flT34 : List (Nat × Nat × Nat × FieldType × Bool) := [(9, 33, 1, (.array .int), true), (13, 33, 3, .int, false), (20, 33, 6, (.object "GridTableModel$Sheet"), false), (27, 33, 7, (.object "GridTableModel$Places"), false), (31, 33, 8, (.object "GridTableModel$Places"), true), (34, 33, 9, (.array .int), true), (37, 33, 11, (.array (.object "GridTableModel$Places")), true), (41, 33, 14, (.object "GridTableModel$Sheet"), false), (44, 33, 15, (.object "GridTableModel$Places"), false), (47, 33, 17, (.array .int), true), (50, 33, 0, .int, false), (66, 34, 4, .int, false), (73, 34, 6, .int, false), (76, 34, 10, .int, false), (79, 34, 9, (.array .int), true), (82, 34, 8, (.array .int), true), (85, 35, 0, (.array .int), true), (88, 35, 1, (.array .int), true), (128, 34, 0, (.array .int), true), (131, 33, 16, .int, false), (134, 34, 3, (.array .int), true), (173, 34, 11, (.array .int), true), (189, 33, 13, .int, false), (192, 33, 12, .int, false), (202, 33, 18, .int, false), (224, 33, 2, .int, false), (236, 34, 2, (.array .int), true), (260, 34, 1, (.array .int), true), (267, 33, 4, .int, false), (270, 33, 5, .int, false), (338, 34, 5, (.array (.object "java/lang/String")), true), (344, 34, 7, (.array (.object "java/lang/String")), true), (350, 34, 12, .int, false), (385, 33, 10, .int, false)]
theorem flp34_0 : xF 34 9 33 1 (.array .int) true := ⟨_, _, _, _, rfl, by decide, Or.inl q2793, Or.inl rfl, by decide +kernel, rfl⟩
theorem flp34_1 : xF 34 13 33 3 .int false := ⟨_, _, _, _, rfl, by decide, Or.inl q2795, Or.inl rfl, by decide +kernel, rfl⟩
theorem flp34_2 : xF 34 20 33 6 (.object "GridTableModel$Sheet") false := ⟨_, _, _, _, rfl, by decide, Or.inl q2798, Or.inl rfl, by decide +kernel, rfl⟩
theorem flp34_3 : xF 34 27 33 7 (.object "GridTableModel$Places") false := ⟨_, _, _, _, rfl, by decide, Or.inl q2799, Or.inl rfl, by decide +kernel, rfl⟩
theorem flp34_4 : xF 34 31 33 8 (.object "GridTableModel$Places") true := ⟨_, _, _, _, rfl, by decide, Or.inl q2800, Or.inl rfl, by decide +kernel, rfl⟩
theorem flp34_5 : xF 34 34 33 9 (.array .int) true := ⟨_, _, _, _, rfl, by decide, Or.inl q2801, Or.inl rfl, by decide +kernel, rfl⟩
theorem flp34_6 : xF 34 37 33 11 (.array (.object "GridTableModel$Places")) true := ⟨_, _, _, _, rfl, by decide, Or.inl q2803, Or.inl rfl, by decide +kernel, rfl⟩
theorem flp34_7 : xF 34 41 33 14 (.object "GridTableModel$Sheet") false := ⟨_, _, _, _, rfl, by decide, Or.inl q2806, Or.inl rfl, by decide +kernel, rfl⟩
theorem flp34_8 : xF 34 44 33 15 (.object "GridTableModel$Places") false := ⟨_, _, _, _, rfl, by decide, Or.inl q2807, Or.inl rfl, by decide +kernel, rfl⟩
theorem flp34_9 : xF 34 47 33 17 (.array .int) true := ⟨_, _, _, _, rfl, by decide, Or.inl q2809, Or.inl rfl, by decide +kernel, rfl⟩
theorem flp34_10 : xF 34 50 33 0 .int false := ⟨_, _, _, _, rfl, by decide, Or.inl q2792, Or.inl rfl, by decide +kernel, rfl⟩
theorem flp34_11 : xF 34 66 34 4 .int false := ⟨_, _, _, _, rfl, by decide, Or.inr ⟨_, q2735⟩, Or.inl rfl, by decide +kernel, rfl⟩
theorem flp34_12 : xF 34 73 34 6 .int false := ⟨_, _, _, _, rfl, by decide, Or.inr ⟨_, q2738⟩, Or.inl rfl, by decide +kernel, rfl⟩
theorem flp34_13 : xF 34 76 34 10 .int false := ⟨_, _, _, _, rfl, by decide, Or.inr ⟨_, q2745⟩, Or.inl rfl, by decide +kernel, rfl⟩
theorem flp34_14 : xF 34 79 34 9 (.array .int) true := ⟨_, _, _, _, rfl, by decide, Or.inr ⟨_, q2744⟩, Or.inl rfl, by decide +kernel, rfl⟩
theorem flp34_15 : xF 34 82 34 8 (.array .int) true := ⟨_, _, _, _, rfl, by decide, Or.inr ⟨_, q2742⟩, Or.inl rfl, by decide +kernel, rfl⟩
theorem flp34_16 : xF 34 85 35 0 (.array .int) true := ⟨_, _, _, _, rfl, by decide, Or.inr ⟨_, q2783⟩, Or.inl rfl, by decide +kernel, rfl⟩
theorem flp34_17 : xF 34 88 35 1 (.array .int) true := ⟨_, _, _, _, rfl, by decide, Or.inr ⟨_, q2785⟩, Or.inl rfl, by decide +kernel, rfl⟩
theorem flp34_18 : xF 34 128 34 0 (.array .int) true := ⟨_, _, _, _, rfl, by decide, Or.inr ⟨_, q2728⟩, Or.inl rfl, by decide +kernel, rfl⟩
theorem flp34_19 : xF 34 131 33 16 .int false := ⟨_, _, _, _, rfl, by decide, Or.inl q2808, Or.inl rfl, by decide +kernel, rfl⟩
theorem flp34_20 : xF 34 134 34 3 (.array .int) true := ⟨_, _, _, _, rfl, by decide, Or.inr ⟨_, q2734⟩, Or.inl rfl, by decide +kernel, rfl⟩
theorem flp34_21 : xF 34 173 34 11 (.array .int) true := ⟨_, _, _, _, rfl, by decide, Or.inr ⟨_, q2747⟩, Or.inl rfl, by decide +kernel, rfl⟩
theorem flp34_22 : xF 34 189 33 13 .int false := ⟨_, _, _, _, rfl, by decide, Or.inl q2805, Or.inl rfl, by decide +kernel, rfl⟩
theorem flp34_23 : xF 34 192 33 12 .int false := ⟨_, _, _, _, rfl, by decide, Or.inl q2804, Or.inl rfl, by decide +kernel, rfl⟩
theorem flp34_24 : xF 34 202 33 18 .int false := ⟨_, _, _, _, rfl, by decide, Or.inl q2810, Or.inl rfl, by decide +kernel, rfl⟩
theorem flp34_25 : xF 34 224 33 2 .int false := ⟨_, _, _, _, rfl, by decide, Or.inl q2794, Or.inl rfl, by decide +kernel, rfl⟩
theorem flp34_26 : xF 34 236 34 2 (.array .int) true := ⟨_, _, _, _, rfl, by decide, Or.inr ⟨_, q2732⟩, Or.inl rfl, by decide +kernel, rfl⟩
theorem flp34_27 : xF 34 260 34 1 (.array .int) true := ⟨_, _, _, _, rfl, by decide, Or.inr ⟨_, q2730⟩, Or.inl rfl, by decide +kernel, rfl⟩
theorem flp34_28 : xF 34 267 33 4 .int false := ⟨_, _, _, _, rfl, by decide, Or.inl q2796, Or.inl rfl, by decide +kernel, rfl⟩
theorem flp34_29 : xF 34 270 33 5 .int false := ⟨_, _, _, _, rfl, by decide, Or.inl q2797, Or.inl rfl, by decide +kernel, rfl⟩
theorem flp34_30 : xF 34 338 34 5 (.array (.object "java/lang/String")) true := ⟨_, _, _, _, rfl, by decide, Or.inr ⟨_, q2737⟩, Or.inl rfl, by decide +kernel, rfl⟩
theorem flp34_31 : xF 34 344 34 7 (.array (.object "java/lang/String")) true := ⟨_, _, _, _, rfl, by decide, Or.inr ⟨_, q2740⟩, Or.inl rfl, by decide +kernel, rfl⟩
theorem flp34_32 : xF 34 350 34 12 .int false := ⟨_, _, _, _, rfl, by decide, Or.inr ⟨_, q2748⟩, Or.inl rfl, by decide +kernel, rfl⟩
theorem flp34_33 : xF 34 385 33 10 .int false := ⟨_, _, _, _, rfl, by decide, Or.inl q2802, Or.inl rfl, by decide +kernel, rfl⟩
theorem flo34 : ∀ e ∈ flT34, xF 34 e.1 e.2.1 e.2.2.1 e.2.2.2.1 e.2.2.2.2 := List.forall_mem_cons.mpr ⟨flp34_0, List.forall_mem_cons.mpr ⟨flp34_1, List.forall_mem_cons.mpr ⟨flp34_2, List.forall_mem_cons.mpr ⟨flp34_3, List.forall_mem_cons.mpr ⟨flp34_4, List.forall_mem_cons.mpr ⟨flp34_5, List.forall_mem_cons.mpr ⟨flp34_6, List.forall_mem_cons.mpr ⟨flp34_7, List.forall_mem_cons.mpr ⟨flp34_8, List.forall_mem_cons.mpr ⟨flp34_9, List.forall_mem_cons.mpr ⟨flp34_10, List.forall_mem_cons.mpr ⟨flp34_11, List.forall_mem_cons.mpr ⟨flp34_12, List.forall_mem_cons.mpr ⟨flp34_13, List.forall_mem_cons.mpr ⟨flp34_14, List.forall_mem_cons.mpr ⟨flp34_15, List.forall_mem_cons.mpr ⟨flp34_16, List.forall_mem_cons.mpr ⟨flp34_17, List.forall_mem_cons.mpr ⟨flp34_18, List.forall_mem_cons.mpr ⟨flp34_19, List.forall_mem_cons.mpr ⟨flp34_20, List.forall_mem_cons.mpr ⟨flp34_21, List.forall_mem_cons.mpr ⟨flp34_22, List.forall_mem_cons.mpr ⟨flp34_23, List.forall_mem_cons.mpr ⟨flp34_24, List.forall_mem_cons.mpr ⟨flp34_25, List.forall_mem_cons.mpr ⟨flp34_26, List.forall_mem_cons.mpr ⟨flp34_27, List.forall_mem_cons.mpr ⟨flp34_28, List.forall_mem_cons.mpr ⟨flp34_29, List.forall_mem_cons.mpr ⟨flp34_30, List.forall_mem_cons.mpr ⟨flp34_31, List.forall_mem_cons.mpr ⟨flp34_32, List.forall_mem_cons.mpr ⟨flp34_33, (fun _ h => by cases h)⟩⟩⟩⟩⟩⟩⟩⟩⟩⟩⟩⟩⟩⟩⟩⟩⟩⟩⟩⟩⟩⟩⟩⟩⟩⟩⟩⟩⟩⟩⟩⟩⟩⟩
def flT35 : List (Nat × Nat × Nat × FieldType × Bool) := [(9, 35, 0, (.array .int), true), (15, 35, 1, (.array .int), true)]
theorem flp35_0 : xF 35 9 35 0 (.array .int) true := ⟨_, _, _, _, rfl, by decide, Or.inl q2782, Or.inl rfl, by decide +kernel, rfl⟩
theorem flp35_1 : xF 35 15 35 1 (.array .int) true := ⟨_, _, _, _, rfl, by decide, Or.inl q2784, Or.inl rfl, by decide +kernel, rfl⟩
theorem flo35 : ∀ e ∈ flT35, xF 35 e.1 e.2.1 e.2.2.1 e.2.2.2.1 e.2.2.2.2 := List.forall_mem_cons.mpr ⟨flp35_0, List.forall_mem_cons.mpr ⟨flp35_1, (fun _ h => by cases h)⟩⟩
def flT36 : List (Nat × Nat × Nat × FieldType × Bool) := [(9, 34, 0, (.array .int), true), (15, 34, 1, (.array .int), true), (18, 34, 2, (.array .int), true), (21, 34, 3, (.array .int), true), (26, 34, 5, (.array (.object "java/lang/String")), true), (30, 34, 7, (.array (.object "java/lang/String")), true), (33, 34, 8, (.array .int), true), (36, 34, 9, (.array .int), true), (39, 34, 11, (.array .int), true)]
theorem flp36_0 : xF 36 9 34 0 (.array .int) true := ⟨_, _, _, _, rfl, by decide, Or.inl q2727, Or.inl rfl, by decide +kernel, rfl⟩
theorem flp36_1 : xF 36 15 34 1 (.array .int) true := ⟨_, _, _, _, rfl, by decide, Or.inl q2729, Or.inl rfl, by decide +kernel, rfl⟩
theorem flp36_2 : xF 36 18 34 2 (.array .int) true := ⟨_, _, _, _, rfl, by decide, Or.inl q2731, Or.inl rfl, by decide +kernel, rfl⟩
theorem flp36_3 : xF 36 21 34 3 (.array .int) true := ⟨_, _, _, _, rfl, by decide, Or.inl q2733, Or.inl rfl, by decide +kernel, rfl⟩
theorem flp36_4 : xF 36 26 34 5 (.array (.object "java/lang/String")) true := ⟨_, _, _, _, rfl, by decide, Or.inl q2736, Or.inl rfl, by decide +kernel, rfl⟩
theorem flp36_5 : xF 36 30 34 7 (.array (.object "java/lang/String")) true := ⟨_, _, _, _, rfl, by decide, Or.inl q2739, Or.inl rfl, by decide +kernel, rfl⟩
theorem flp36_6 : xF 36 33 34 8 (.array .int) true := ⟨_, _, _, _, rfl, by decide, Or.inl q2741, Or.inl rfl, by decide +kernel, rfl⟩
theorem flp36_7 : xF 36 36 34 9 (.array .int) true := ⟨_, _, _, _, rfl, by decide, Or.inl q2743, Or.inl rfl, by decide +kernel, rfl⟩
theorem flp36_8 : xF 36 39 34 11 (.array .int) true := ⟨_, _, _, _, rfl, by decide, Or.inl q2746, Or.inl rfl, by decide +kernel, rfl⟩
theorem flo36 : ∀ e ∈ flT36, xF 36 e.1 e.2.1 e.2.2.1 e.2.2.2.1 e.2.2.2.2 := List.forall_mem_cons.mpr ⟨flp36_0, List.forall_mem_cons.mpr ⟨flp36_1, List.forall_mem_cons.mpr ⟨flp36_2, List.forall_mem_cons.mpr ⟨flp36_3, List.forall_mem_cons.mpr ⟨flp36_4, List.forall_mem_cons.mpr ⟨flp36_5, List.forall_mem_cons.mpr ⟨flp36_6, List.forall_mem_cons.mpr ⟨flp36_7, List.forall_mem_cons.mpr ⟨flp36_8, (fun _ h => by cases h)⟩⟩⟩⟩⟩⟩⟩⟩⟩
def flT37 : List (Nat × Nat × Nat × FieldType × Bool) := [(15, 7, 0, (.array .byte), false), (22, 7, 1, .byte, false), (79, 7, 3, .int, false)]
theorem flp37_0 : xF 37 15 7 0 (.array .byte) false := ⟨_, _, _, _, rfl, by decide, Or.inl q392, Or.inl rfl, by decide +kernel, rfl⟩
theorem flp37_1 : xF 37 22 7 1 .byte false := ⟨_, _, _, _, rfl, by decide, Or.inl q393, Or.inl rfl, by decide +kernel, rfl⟩
theorem flp37_2 : xF 37 79 7 3 .int false := ⟨_, _, _, _, rfl, by decide, Or.inl q395, Or.inl rfl, by decide +kernel, rfl⟩
theorem flo37 : ∀ e ∈ flT37, xF 37 e.1 e.2.1 e.2.2.1 e.2.2.2.1 e.2.2.2.2 := List.forall_mem_cons.mpr ⟨flp37_0, List.forall_mem_cons.mpr ⟨flp37_1, List.forall_mem_cons.mpr ⟨flp37_2, (fun _ h => by cases h)⟩⟩⟩
def flT38 : List (Nat × Nat × Nat × FieldType × Bool) := []
theorem flo38 : ∀ e ∈ flT38, xF 38 e.1 e.2.1 e.2.2.1 e.2.2.2.1 e.2.2.2.2 := (fun _ h => by cases h)
def flT39 : List (Nat × Nat × Nat × FieldType × Bool) := []
theorem flo39 : ∀ e ∈ flT39, xF 39 e.1 e.2.1 e.2.2.1 e.2.2.2.1 e.2.2.2.2 := (fun _ h => by cases h)
def flT40 : List (Nat × Nat × Nat × FieldType × Bool) := [(7, 36, 0, .int, true), (7, 37, 0, .int, true), (7, 38, 0, .int, true), (7, 39, 0, .int, true), (7, 40, 0, .int, true), (7, 41, 0, .int, true), (7, 42, 0, .int, true), (7, 43, 0, .int, true), (7, 44, 0, .int, true), (7, 45, 0, .int, true), (7, 46, 0, .int, true), (7, 47, 0, .int, true), (7, 48, 0, .int, true), (7, 49, 0, .int, true)]
theorem flp40_0 : xF 40 7 36 0 .int true := ⟨_, _, _, _, rfl, by decide, Or.inl q3395, Or.inl rfl, by decide +kernel, rfl⟩
theorem flp40_1 : xF 40 7 37 0 .int true := ⟨_, _, _, _, rfl, by decide, Or.inl q3395, Or.inl rfl, by decide +kernel, rfl⟩
theorem flp40_2 : xF 40 7 38 0 .int true := ⟨_, _, _, _, rfl, by decide, Or.inl q3395, Or.inl rfl, by decide +kernel, rfl⟩
theorem flp40_3 : xF 40 7 39 0 .int true := ⟨_, _, _, _, rfl, by decide, Or.inl q3395, Or.inl rfl, by decide +kernel, rfl⟩
theorem flp40_4 : xF 40 7 40 0 .int true := ⟨_, _, _, _, rfl, by decide, Or.inl q3395, Or.inl rfl, by decide +kernel, rfl⟩
theorem flp40_5 : xF 40 7 41 0 .int true := ⟨_, _, _, _, rfl, by decide, Or.inl q3395, Or.inl rfl, by decide +kernel, rfl⟩
theorem flp40_6 : xF 40 7 42 0 .int true := ⟨_, _, _, _, rfl, by decide, Or.inl q3395, Or.inl rfl, by decide +kernel, rfl⟩
theorem flp40_7 : xF 40 7 43 0 .int true := ⟨_, _, _, _, rfl, by decide, Or.inl q3395, Or.inl rfl, by decide +kernel, rfl⟩
theorem flp40_8 : xF 40 7 44 0 .int true := ⟨_, _, _, _, rfl, by decide, Or.inl q3395, Or.inl rfl, by decide +kernel, rfl⟩
theorem flp40_9 : xF 40 7 45 0 .int true := ⟨_, _, _, _, rfl, by decide, Or.inl q3395, Or.inl rfl, by decide +kernel, rfl⟩
theorem flp40_10 : xF 40 7 46 0 .int true := ⟨_, _, _, _, rfl, by decide, Or.inl q3395, Or.inl rfl, by decide +kernel, rfl⟩
theorem flp40_11 : xF 40 7 47 0 .int true := ⟨_, _, _, _, rfl, by decide, Or.inl q3395, Or.inl rfl, by decide +kernel, rfl⟩
theorem flp40_12 : xF 40 7 48 0 .int true := ⟨_, _, _, _, rfl, by decide, Or.inl q3395, Or.inl rfl, by decide +kernel, rfl⟩
theorem flp40_13 : xF 40 7 49 0 .int true := ⟨_, _, _, _, rfl, by decide, Or.inl q3395, Or.inl rfl, by decide +kernel, rfl⟩
theorem flo40 : ∀ e ∈ flT40, xF 40 e.1 e.2.1 e.2.2.1 e.2.2.2.1 e.2.2.2.2 := List.forall_mem_cons.mpr ⟨flp40_0, List.forall_mem_cons.mpr ⟨flp40_1, List.forall_mem_cons.mpr ⟨flp40_2, List.forall_mem_cons.mpr ⟨flp40_3, List.forall_mem_cons.mpr ⟨flp40_4, List.forall_mem_cons.mpr ⟨flp40_5, List.forall_mem_cons.mpr ⟨flp40_6, List.forall_mem_cons.mpr ⟨flp40_7, List.forall_mem_cons.mpr ⟨flp40_8, List.forall_mem_cons.mpr ⟨flp40_9, List.forall_mem_cons.mpr ⟨flp40_10, List.forall_mem_cons.mpr ⟨flp40_11, List.forall_mem_cons.mpr ⟨flp40_12, List.forall_mem_cons.mpr ⟨flp40_13, (fun _ h => by cases h)⟩⟩⟩⟩⟩⟩⟩⟩⟩⟩⟩⟩⟩⟩
def flT41 : List (Nat × Nat × Nat × FieldType × Bool) := []
theorem flo41 : ∀ e ∈ flT41, xF 41 e.1 e.2.1 e.2.2.1 e.2.2.2.1 e.2.2.2.2 := (fun _ h => by cases h)
def flT42 : List (Nat × Nat × Nat × FieldType × Bool) := []
theorem flo42 : ∀ e ∈ flT42, xF 42 e.1 e.2.1 e.2.2.1 e.2.2.2.1 e.2.2.2.2 := (fun _ h => by cases h)
def flT43 : List (Nat × Nat × Nat × FieldType × Bool) := []
theorem flo43 : ∀ e ∈ flT43, xF 43 e.1 e.2.1 e.2.2.1 e.2.2.2.1 e.2.2.2.2 := (fun _ h => by cases h)
def flT44 : List (Nat × Nat × Nat × FieldType × Bool) := []
theorem flo44 : ∀ e ∈ flT44, xF 44 e.1 e.2.1 e.2.2.1 e.2.2.2.1 e.2.2.2.2 := (fun _ h => by cases h)
def flT45 : List (Nat × Nat × Nat × FieldType × Bool) := [(205, 15, 0, .int, true)]
theorem flp45_0 : xF 45 205 15 0 .int true := ⟨_, _, _, _, rfl, by decide, Or.inl q1591, Or.inl rfl, by decide +kernel, rfl⟩
theorem flo45 : ∀ e ∈ flT45, xF 45 e.1 e.2.1 e.2.2.1 e.2.2.2.1 e.2.2.2.2 := List.forall_mem_cons.mpr ⟨flp45_0, (fun _ h => by cases h)⟩
def flT46 : List (Nat × Nat × Nat × FieldType × Bool) := []
theorem flo46 : ∀ e ∈ flT46, xF 46 e.1 e.2.1 e.2.2.1 e.2.2.2.1 e.2.2.2.2 := (fun _ h => by cases h)
def flT47 : List (Nat × Nat × Nat × FieldType × Bool) := []
theorem flo47 : ∀ e ∈ flT47, xF 47 e.1 e.2.1 e.2.2.1 e.2.2.2.1 e.2.2.2.2 := (fun _ h => by cases h)
def flT48 : List (Nat × Nat × Nat × FieldType × Bool) := []
theorem flo48 : ∀ e ∈ flT48, xF 48 e.1 e.2.1 e.2.2.1 e.2.2.2.1 e.2.2.2.2 := (fun _ h => by cases h)
def flT49 : List (Nat × Nat × Nat × FieldType × Bool) := []
theorem flo49 : ∀ e ∈ flT49, xF 49 e.1 e.2.1 e.2.2.1 e.2.2.2.1 e.2.2.2.2 := (fun _ h => by cases h)
def flT50 : List (Nat × Nat × Nat × FieldType × Bool) := []
theorem flo50 : ∀ e ∈ flT50, xF 50 e.1 e.2.1 e.2.2.1 e.2.2.2.1 e.2.2.2.2 := (fun _ h => by cases h)
def flT51 : List (Nat × Nat × Nat × FieldType × Bool) := [(9, 8, 0, (.array .byte), true), (15, 8, 1, .byte, true), (19, 8, 2, .int, false), (23, 8, 3, .boolean, false), (1048, 7, 2, .boolean, false)]
theorem flp51_0 : xF 51 9 8 0 (.array .byte) true := ⟨_, _, _, _, rfl, by decide, Or.inl q694, Or.inl rfl, by decide +kernel, rfl⟩
theorem flp51_1 : xF 51 15 8 1 .byte true := ⟨_, _, _, _, rfl, by decide, Or.inl q695, Or.inl rfl, by decide +kernel, rfl⟩
theorem flp51_2 : xF 51 19 8 2 .int false := ⟨_, _, _, _, rfl, by decide, Or.inl q696, Or.inl rfl, by decide +kernel, rfl⟩
theorem flp51_3 : xF 51 23 8 3 .boolean false := ⟨_, _, _, _, rfl, by decide, Or.inl q697, Or.inl rfl, by decide +kernel, rfl⟩
theorem flp51_4 : xF 51 1048 7 2 .boolean false := ⟨_, _, _, _, rfl, by decide, Or.inl q394, Or.inl rfl, by decide +kernel, rfl⟩
theorem flo51 : ∀ e ∈ flT51, xF 51 e.1 e.2.1 e.2.2.1 e.2.2.2.1 e.2.2.2.2 := List.forall_mem_cons.mpr ⟨flp51_0, List.forall_mem_cons.mpr ⟨flp51_1, List.forall_mem_cons.mpr ⟨flp51_2, List.forall_mem_cons.mpr ⟨flp51_3, List.forall_mem_cons.mpr ⟨flp51_4, (fun _ h => by cases h)⟩⟩⟩⟩⟩
def flT52 : List (Nat × Nat × Nat × FieldType × Bool) := []
theorem flo52 : ∀ e ∈ flT52, xF 52 e.1 e.2.1 e.2.2.1 e.2.2.2.1 e.2.2.2.2 := (fun _ h => by cases h)
def flT53 : List (Nat × Nat × Nat × FieldType × Bool) := []
theorem flo53 : ∀ e ∈ flT53, xF 53 e.1 e.2.1 e.2.2.1 e.2.2.2.1 e.2.2.2.2 := (fun _ h => by cases h)
def flT54 : List (Nat × Nat × Nat × FieldType × Bool) := []
theorem flo54 : ∀ e ∈ flT54, xF 54 e.1 e.2.1 e.2.2.1 e.2.2.2.1 e.2.2.2.2 := (fun _ h => by cases h)
def flT55 : List (Nat × Nat × Nat × FieldType × Bool) := []
theorem flo55 : ∀ e ∈ flT55, xF 55 e.1 e.2.1 e.2.2.1 e.2.2.2.1 e.2.2.2.2 := (fun _ h => by cases h)
def flT56 : List (Nat × Nat × Nat × FieldType × Bool) := [(7, 9, 0, (.object "java/lang/Throwable"), false), (7, 10, 0, (.object "java/lang/Throwable"), false), (7, 12, 0, (.object "java/lang/Throwable"), false), (7, 30, 0, (.object "java/lang/Throwable"), false), (7, 31, 0, (.object "java/lang/Throwable"), false), (7, 32, 2, (.object "java/lang/Throwable"), false), (17, 9, 1, (.array (.object "java/lang/StackTraceElement")), false), (17, 10, 1, (.array (.object "java/lang/StackTraceElement")), false), (17, 12, 1, (.array (.object "java/lang/StackTraceElement")), false), (17, 30, 1, (.array (.object "java/lang/StackTraceElement")), false), (17, 31, 1, (.array (.object "java/lang/StackTraceElement")), false), (17, 32, 3, (.array (.object "java/lang/StackTraceElement")), false), (24, 9, 2, (.object "java/util/List"), false), (24, 10, 2, (.object "java/util/List"), false), (24, 12, 2, (.object "java/util/List"), false), (24, 30, 2, (.object "java/util/List"), false), (24, 31, 2, (.object "java/util/List"), false), (24, 32, 5, (.object "java/util/List"), false), (31, 9, 3, (.object "java/lang/String"), false), (31, 10, 3, (.object "java/lang/String"), false), (31, 12, 3, (.object "java/lang/String"), false), (31, 30, 3, (.object "java/lang/String"), false), (31, 31, 3, (.object "java/lang/String"), false), (31, 32, 1, (.object "java/lang/String"), false)]
theorem flp56_0 : xF 56 7 9 0 (.object "java/lang/Throwable") false := ⟨_, _, _, _, rfl, by decide, Or.inl q670, Or.inl rfl, by decide +kernel, rfl⟩
theorem flp56_1 : xF 56 7 10 0 (.object "java/lang/Throwable") false := ⟨_, _, _, _, rfl, by decide, Or.inl q670, Or.inl rfl, by decide +kernel, rfl⟩
theorem flp56_2 : xF 56 7 12 0 (.object "java/lang/Throwable") false := ⟨_, _, _, _, rfl, by decide, Or.inl q670, Or.inl rfl, by decide +kernel, rfl⟩
theorem flp56_3 : xF 56 7 30 0 (.object "java/lang/Throwable") false := ⟨_, _, _, _, rfl, by decide, Or.inl q670, Or.inl rfl, by decide +kernel, rfl⟩
theorem flp56_4 : xF 56 7 31 0 (.object "java/lang/Throwable") false := ⟨_, _, _, _, rfl, by decide, Or.inl q670, Or.inl rfl, by decide +kernel, rfl⟩
theorem flp56_5 : xF 56 7 32 2 (.object "java/lang/Throwable") false := ⟨_, _, _, _, rfl, by decide, Or.inl q670, Or.inl rfl, by decide +kernel, rfl⟩
theorem flp56_6 : xF 56 17 9 1 (.array (.object "java/lang/StackTraceElement")) false := ⟨_, _, _, _, rfl, by decide, Or.inl q671, Or.inl rfl, by decide +kernel, rfl⟩
theorem flp56_7 : xF 56 17 10 1 (.array (.object "java/lang/StackTraceElement")) false := ⟨_, _, _, _, rfl, by decide, Or.inl q671, Or.inl rfl, by decide +kernel, rfl⟩
theorem flp56_8 : xF 56 17 12 1 (.array (.object "java/lang/StackTraceElement")) false := ⟨_, _, _, _, rfl, by decide, Or.inl q671, Or.inl rfl, by decide +kernel, rfl⟩
theorem flp56_9 : xF 56 17 30 1 (.array (.object "java/lang/StackTraceElement")) false := ⟨_, _, _, _, rfl, by decide, Or.inl q671, Or.inl rfl, by decide +kernel, rfl⟩
theorem flp56_10 : xF 56 17 31 1 (.array (.object "java/lang/StackTraceElement")) false := ⟨_, _, _, _, rfl, by decide, Or.inl q671, Or.inl rfl, by decide +kernel, rfl⟩
theorem flp56_11 : xF 56 17 32 3 (.array (.object "java/lang/StackTraceElement")) false := ⟨_, _, _, _, rfl, by decide, Or.inl q671, Or.inl rfl, by decide +kernel, rfl⟩
theorem flp56_12 : xF 56 24 9 2 (.object "java/util/List") false := ⟨_, _, _, _, rfl, by decide, Or.inl q672, Or.inl rfl, by decide +kernel, rfl⟩
theorem flp56_13 : xF 56 24 10 2 (.object "java/util/List") false := ⟨_, _, _, _, rfl, by decide, Or.inl q672, Or.inl rfl, by decide +kernel, rfl⟩
theorem flp56_14 : xF 56 24 12 2 (.object "java/util/List") false := ⟨_, _, _, _, rfl, by decide, Or.inl q672, Or.inl rfl, by decide +kernel, rfl⟩
theorem flp56_15 : xF 56 24 30 2 (.object "java/util/List") false := ⟨_, _, _, _, rfl, by decide, Or.inl q672, Or.inl rfl, by decide +kernel, rfl⟩
theorem flp56_16 : xF 56 24 31 2 (.object "java/util/List") false := ⟨_, _, _, _, rfl, by decide, Or.inl q672, Or.inl rfl, by decide +kernel, rfl⟩
theorem flp56_17 : xF 56 24 32 5 (.object "java/util/List") false := ⟨_, _, _, _, rfl, by decide, Or.inl q672, Or.inl rfl, by decide +kernel, rfl⟩
theorem flp56_18 : xF 56 31 9 3 (.object "java/lang/String") false := ⟨_, _, _, _, rfl, by decide, Or.inl q669, Or.inl rfl, by decide +kernel, rfl⟩
theorem flp56_19 : xF 56 31 10 3 (.object "java/lang/String") false := ⟨_, _, _, _, rfl, by decide, Or.inl q669, Or.inl rfl, by decide +kernel, rfl⟩
theorem flp56_20 : xF 56 31 12 3 (.object "java/lang/String") false := ⟨_, _, _, _, rfl, by decide, Or.inl q669, Or.inl rfl, by decide +kernel, rfl⟩
theorem flp56_21 : xF 56 31 30 3 (.object "java/lang/String") false := ⟨_, _, _, _, rfl, by decide, Or.inl q669, Or.inl rfl, by decide +kernel, rfl⟩
theorem flp56_22 : xF 56 31 31 3 (.object "java/lang/String") false := ⟨_, _, _, _, rfl, by decide, Or.inl q669, Or.inl rfl, by decide +kernel, rfl⟩
theorem flp56_23 : xF 56 31 32 1 (.object "java/lang/String") false := ⟨_, _, _, _, rfl, by decide, Or.inl q669, Or.inl rfl, by decide +kernel, rfl⟩
theorem flo56 : ∀ e ∈ flT56, xF 56 e.1 e.2.1 e.2.2.1 e.2.2.2.1 e.2.2.2.2 := List.forall_mem_cons.mpr ⟨flp56_0, List.forall_mem_cons.mpr ⟨flp56_1, List.forall_mem_cons.mpr ⟨flp56_2, List.forall_mem_cons.mpr ⟨flp56_3, List.forall_mem_cons.mpr ⟨flp56_4, List.forall_mem_cons.mpr ⟨flp56_5, List.forall_mem_cons.mpr ⟨flp56_6, List.forall_mem_cons.mpr ⟨flp56_7, List.forall_mem_cons.mpr ⟨flp56_8, List.forall_mem_cons.mpr ⟨flp56_9, List.forall_mem_cons.mpr ⟨flp56_10, List.forall_mem_cons.mpr ⟨flp56_11, List.forall_mem_cons.mpr ⟨flp56_12, List.forall_mem_cons.mpr ⟨flp56_13, List.forall_mem_cons.mpr ⟨flp56_14, List.forall_mem_cons.mpr ⟨flp56_15, List.forall_mem_cons.mpr ⟨flp56_16, List.forall_mem_cons.mpr ⟨flp56_17, List.forall_mem_cons.mpr ⟨flp56_18, List.forall_mem_cons.mpr ⟨flp56_19, List.forall_mem_cons.mpr ⟨flp56_20, List.forall_mem_cons.mpr ⟨flp56_21, List.forall_mem_cons.mpr ⟨flp56_22, List.forall_mem_cons.mpr ⟨flp56_23, (fun _ h => by cases h)⟩⟩⟩⟩⟩⟩⟩⟩⟩⟩⟩⟩⟩⟩⟩⟩⟩⟩⟩⟩⟩⟩⟩⟩
def flT57 : List (Nat × Nat × Nat × FieldType × Bool) := []
theorem flo57 : ∀ e ∈ flT57, xF 57 e.1 e.2.1 e.2.2.1 e.2.2.2.1 e.2.2.2.2 := (fun _ h => by cases h)
def flT58 : List (Nat × Nat × Nat × FieldType × Bool) := [(7, 3, 0, .int, false)]
theorem flp58_0 : xF 58 7 3 0 .int false := ⟨_, _, _, _, rfl, by decide, Or.inl q225, Or.inl rfl, by decide +kernel, rfl⟩
theorem flo58 : ∀ e ∈ flT58, xF 58 e.1 e.2.1 e.2.2.1 e.2.2.2.1 e.2.2.2.2 := List.forall_mem_cons.mpr ⟨flp58_0, (fun _ h => by cases h)⟩
def flT59 : List (Nat × Nat × Nat × FieldType × Bool) := []
theorem flo59 : ∀ e ∈ flT59, xF 59 e.1 e.2.1 e.2.2.1 e.2.2.2.1 e.2.2.2.2 := (fun _ h => by cases h)
def flT60 : List (Nat × Nat × Nat × FieldType × Bool) := [(9, 3, 1, (.array (.object "java/lang/Object")), false), (48, 3, 2, .int, false), (63, 3, 0, .int, false)]
theorem flp60_0 : xF 60 9 3 1 (.array (.object "java/lang/Object")) false := ⟨_, _, _, _, rfl, by decide, Or.inl q221, Or.inl rfl, by decide +kernel, rfl⟩
theorem flp60_1 : xF 60 48 3 2 .int false := ⟨_, _, _, _, rfl, by decide, Or.inl q224, Or.inl rfl, by decide +kernel, rfl⟩
theorem flp60_2 : xF 60 63 3 0 .int false := ⟨_, _, _, _, rfl, by decide, Or.inl q228, Or.inr q227, by decide +kernel, rfl⟩
theorem flo60 : ∀ e ∈ flT60, xF 60 e.1 e.2.1 e.2.2.1 e.2.2.2.1 e.2.2.2.2 := List.forall_mem_cons.mpr ⟨flp60_0, List.forall_mem_cons.mpr ⟨flp60_1, List.forall_mem_cons.mpr ⟨flp60_2, (fun _ h => by cases h)⟩⟩⟩
def flT61 : List (Nat × Nat × Nat × FieldType × Bool) := [(1, 29, 3, (.object "java/util/ArrayList"), true), (13, 29, 1, .int, false), (17, 3, 0, .int, false), (22, 29, 2, .int, false), (25, 29, 0, .int, false), (28, 3, 2, .int, false), (37, 3, 1, (.array (.object "java/lang/Object")), false)]
theorem flp61_0 : xF 61 1 29 3 (.object "java/util/ArrayList") true := ⟨_, _, _, _, rfl, by decide, Or.inl q2317, Or.inl rfl, by decide +kernel, rfl⟩
theorem flp61_1 : xF 61 13 29 1 .int false := ⟨_, _, _, _, rfl, by decide, Or.inl q2315, Or.inl rfl, by decide +kernel, rfl⟩
theorem flp61_2 : xF 61 17 3 0 .int false := ⟨_, _, _, _, rfl, by decide, Or.inl q226, Or.inr q227, by decide +kernel, rfl⟩
theorem flp61_3 : xF 61 22 29 2 .int false := ⟨_, _, _, _, rfl, by decide, Or.inl q2316, Or.inl rfl, by decide +kernel, rfl⟩
theorem flp61_4 : xF 61 25 29 0 .int false := ⟨_, _, _, _, rfl, by decide, Or.inl q2314, Or.inl rfl, by decide +kernel, rfl⟩
theorem flp61_5 : xF 61 28 3 2 .int false := ⟨_, _, _, _, rfl, by decide, Or.inr ⟨_, q223⟩, Or.inl rfl, by decide +kernel, rfl⟩
theorem flp61_6 : xF 61 37 3 1 (.array (.object "java/lang/Object")) false := ⟨_, _, _, _, rfl, by decide, Or.inl q222, Or.inl rfl, by decide +kernel, rfl⟩
theorem flo61 : ∀ e ∈ flT61, xF 61 e.1 e.2.1 e.2.2.1 e.2.2.2.1 e.2.2.2.2 := List.forall_mem_cons.mpr ⟨flp61_0, List.forall_mem_cons.mpr ⟨flp61_1, List.forall_mem_cons.mpr ⟨flp61_2, List.forall_mem_cons.mpr ⟨flp61_3, List.forall_mem_cons.mpr ⟨flp61_4, List.forall_mem_cons.mpr ⟨flp61_5, List.forall_mem_cons.mpr ⟨flp61_6, (fun _ h => by cases h)⟩⟩⟩⟩⟩⟩⟩
def flT62 : List (Nat × Nat × Nat × FieldType × Bool) := []
theorem flo62 : ∀ e ∈ flT62, xF 62 e.1 e.2.1 e.2.2.1 e.2.2.2.1 e.2.2.2.2 := (fun _ h => by cases h)
def flT63 : List (Nat × Nat × Nat × FieldType × Bool) := [(81, 11, 7, .float, true), (88, 11, 6, .int, false), (105, 11, 2, (.array (.object "java/util/HashMap$Node")), false), (156, 11, 4, .int, false), (162, 21, 2, (.object "java/lang/Object"), false), (162, 22, 4, (.object "java/lang/Object"), false), (168, 21, 0, .int, true), (168, 22, 2, .int, true), (170, 21, 1, (.object "java/lang/Object"), true), (170, 22, 3, (.object "java/lang/Object"), true), (177, 21, 3, (.object "java/util/HashMap$Node"), false), (177, 22, 5, (.object "java/util/HashMap$Node"), false), (202, 11, 5, .int, false), (219, 22, 9, (.object "java/util/HashMap$TreeNode"), false), (223, 21, 3, (.object "java/util/HashMap$Node"), false), (223, 22, 5, (.object "java/util/HashMap$Node"), false)]
theorem flp63_0 : xF 63 81 11 7 .float true := ⟨_, _, _, _, rfl, by decide, Or.inl q885, Or.inl rfl, by decide +kernel, rfl⟩
theorem flp63_1 : xF 63 88 11 6 .int false := ⟨_, _, _, _, rfl, by decide, Or.inl q884, Or.inl rfl, by decide +kernel, rfl⟩
theorem flp63_2 : xF 63 105 11 2 (.array (.object "java/util/HashMap$Node")) false := ⟨_, _, _, _, rfl, by decide, Or.inl q881, Or.inl rfl, by decide +kernel, rfl⟩
theorem flp63_3 : xF 63 156 11 4 .int false := ⟨_, _, _, _, rfl, by decide, Or.inl q882, Or.inl rfl, by decide +kernel, rfl⟩
theorem flp63_4 : xF 63 162 21 2 (.object "java/lang/Object") false := ⟨_, _, _, _, rfl, by decide, Or.inl q1849, Or.inl rfl, by decide +kernel, rfl⟩
theorem flp63_5 : xF 63 162 22 4 (.object "java/lang/Object") false := ⟨_, _, _, _, rfl, by decide, Or.inl q1849, Or.inl rfl, by decide +kernel, rfl⟩
theorem flp63_6 : xF 63 168 21 0 .int true := ⟨_, _, _, _, rfl, by decide, Or.inl q1843, Or.inl rfl, by decide +kernel, rfl⟩
theorem flp63_7 : xF 63 168 22 2 .int true := ⟨_, _, _, _, rfl, by decide, Or.inl q1843, Or.inl rfl, by decide +kernel, rfl⟩
theorem flp63_8 : xF 63 170 21 1 (.object "java/lang/Object") true := ⟨_, _, _, _, rfl, by decide, Or.inl q1847, Or.inl rfl, by decide +kernel, rfl⟩
theorem flp63_9 : xF 63 170 22 3 (.object "java/lang/Object") true := ⟨_, _, _, _, rfl, by decide, Or.inl q1847, Or.inl rfl, by decide +kernel, rfl⟩
theorem flp63_10 : xF 63 177 21 3 (.object "java/util/HashMap$Node") false := ⟨_, _, _, _, rfl, by decide, Or.inl q1854, Or.inl rfl, by decide +kernel, rfl⟩
theorem flp63_11 : xF 63 177 22 5 (.object "java/util/HashMap$Node") false := ⟨_, _, _, _, rfl, by decide, Or.inl q1854, Or.inl rfl, by decide +kernel, rfl⟩
theorem flp63_12 : xF 63 202 11 5 .int false := ⟨_, _, _, _, rfl, by decide, Or.inl q883, Or.inl rfl, by decide +kernel, rfl⟩
theorem flp63_13 : xF 63 219 22 9 (.object "java/util/HashMap$TreeNode") false := ⟨_, _, _, _, rfl, by decide, Or.inl q1907, Or.inl rfl, by decide +kernel, rfl⟩
theorem flp63_14 : xF 63 223 21 3 (.object "java/util/HashMap$Node") false := ⟨_, _, _, _, rfl, by decide, Or.inl q1855, Or.inr q1852, by decide +kernel, rfl⟩
theorem flp63_15 : xF 63 223 22 5 (.object "java/util/HashMap$Node") false := ⟨_, _, _, _, rfl, by decide, Or.inl q1855, Or.inr q1852, by decide +kernel, rfl⟩
theorem flo63 : ∀ e ∈ flT63, xF 63 e.1 e.2.1 e.2.2.1 e.2.2.2.1 e.2.2.2.2 := List.forall_mem_cons.mpr ⟨flp63_0, List.forall_mem_cons.mpr ⟨flp63_1, List.forall_mem_cons.mpr ⟨flp63_2, List.forall_mem_cons.mpr ⟨flp63_3, List.forall_mem_cons.mpr ⟨flp63_4, List.forall_mem_cons.mpr ⟨flp63_5, List.forall_mem_cons.mpr ⟨flp63_6, List.forall_mem_cons.mpr ⟨flp63_7, List.forall_mem_cons.mpr ⟨flp63_8, List.forall_mem_cons.mpr ⟨flp63_9, List.forall_mem_cons.mpr ⟨flp63_10, List.forall_mem_cons.mpr ⟨flp63_11, List.forall_mem_cons.mpr ⟨flp63_12, List.forall_mem_cons.mpr ⟨flp63_13, List.forall_mem_cons.mpr ⟨flp63_14, List.forall_mem_cons.mpr ⟨flp63_15, (fun _ h => by cases h)⟩⟩⟩⟩⟩⟩⟩⟩⟩⟩⟩⟩⟩⟩⟩⟩
def flT64 : List (Nat × Nat × Nat × FieldType × Bool) := [(7, 21, 0, .int, true), (7, 22, 2, .int, true), (13, 21, 1, (.object "java/lang/Object"), true), (13, 22, 3, (.object "java/lang/Object"), true), (17, 21, 2, (.object "java/lang/Object"), false), (17, 22, 4, (.object "java/lang/Object"), false), (20, 21, 3, (.object "java/util/HashMap$Node"), false), (20, 22, 5, (.object "java/util/HashMap$Node"), false)]
theorem flp64_0 : xF 64 7 21 0 .int true := ⟨_, _, _, _, rfl, by decide, Or.inl q1840, Or.inl rfl, by decide +kernel, rfl⟩
theorem flp64_1 : xF 64 7 22 2 .int true := ⟨_, _, _, _, rfl, by decide, Or.inl q1840, Or.inl rfl, by decide +kernel, rfl⟩
theorem flp64_2 : xF 64 13 21 1 (.object "java/lang/Object") true := ⟨_, _, _, _, rfl, by decide, Or.inl q1844, Or.inl rfl, by decide +kernel, rfl⟩
theorem flp64_3 : xF 64 13 22 3 (.object "java/lang/Object") true := ⟨_, _, _, _, rfl, by decide, Or.inl q1844, Or.inl rfl, by decide +kernel, rfl⟩
theorem flp64_4 : xF 64 17 21 2 (.object "java/lang/Object") false := ⟨_, _, _, _, rfl, by decide, Or.inl q1848, Or.inl rfl, by decide +kernel, rfl⟩
theorem flp64_5 : xF 64 17 22 4 (.object "java/lang/Object") false := ⟨_, _, _, _, rfl, by decide, Or.inl q1848, Or.inl rfl, by decide +kernel, rfl⟩
theorem flp64_6 : xF 64 20 21 3 (.object "java/util/HashMap$Node") false := ⟨_, _, _, _, rfl, by decide, Or.inl q1850, Or.inl rfl, by decide +kernel, rfl⟩
theorem flp64_7 : xF 64 20 22 5 (.object "java/util/HashMap$Node") false := ⟨_, _, _, _, rfl, by decide, Or.inl q1850, Or.inl rfl, by decide +kernel, rfl⟩
theorem flo64 : ∀ e ∈ flT64, xF 64 e.1 e.2.1 e.2.2.1 e.2.2.2.1 e.2.2.2.2 := List.forall_mem_cons.mpr ⟨flp64_0, List.forall_mem_cons.mpr ⟨flp64_1, List.forall_mem_cons.mpr ⟨flp64_2, List.forall_mem_cons.mpr ⟨flp64_3, List.forall_mem_cons.mpr ⟨flp64_4, List.forall_mem_cons.mpr ⟨flp64_5, List.forall_mem_cons.mpr ⟨flp64_6, List.forall_mem_cons.mpr ⟨flp64_7, (fun _ h => by cases h)⟩⟩⟩⟩⟩⟩⟩⟩
def flT65 : List (Nat × Nat × Nat × FieldType × Bool) := [(9, 22, 6, (.object "java/util/HashMap$TreeNode"), false), (15, 21, 0, .int, true), (15, 22, 2, .int, true), (19, 22, 9, (.object "java/util/HashMap$TreeNode"), false), (22, 21, 3, (.object "java/util/HashMap$Node"), false), (22, 22, 5, (.object "java/util/HashMap$Node"), false), (39, 22, 7, (.object "java/util/HashMap$TreeNode"), false), (42, 22, 8, (.object "java/util/HashMap$TreeNode"), false), (45, 21, 1, (.object "java/lang/Object"), true), (45, 22, 3, (.object "java/lang/Object"), true), (93, 22, 10, .boolean, false), (112, 21, 3, (.object "java/util/HashMap$Node"), false), (112, 22, 5, (.object "java/util/HashMap$Node"), false)]
theorem flp65_0 : xF 65 9 22 6 (.object "java/util/HashMap$TreeNode") false := ⟨_, _, _, _, rfl, by decide, Or.inl q1903, Or.inl rfl, by decide +kernel, rfl⟩
theorem flp65_1 : xF 65 15 21 0 .int true := ⟨_, _, _, _, rfl, by decide, Or.inl q1841, Or.inr q1842, by decide +kernel, rfl⟩
theorem flp65_2 : xF 65 15 22 2 .int true := ⟨_, _, _, _, rfl, by decide, Or.inl q1841, Or.inr q1842, by decide +kernel, rfl⟩
theorem flp65_3 : xF 65 19 22 9 (.object "java/util/HashMap$TreeNode") false := ⟨_, _, _, _, rfl, by decide, Or.inl q1906, Or.inl rfl, by decide +kernel, rfl⟩
theorem flp65_4 : xF 65 22 21 3 (.object "java/util/HashMap$Node") false := ⟨_, _, _, _, rfl, by decide, Or.inl q1851, Or.inr q1852, by decide +kernel, rfl⟩
theorem flp65_5 : xF 65 22 22 5 (.object "java/util/HashMap$Node") false := ⟨_, _, _, _, rfl, by decide, Or.inl q1851, Or.inr q1852, by decide +kernel, rfl⟩
theorem flp65_6 : xF 65 39 22 7 (.object "java/util/HashMap$TreeNode") false := ⟨_, _, _, _, rfl, by decide, Or.inl q1904, Or.inl rfl, by decide +kernel, rfl⟩
theorem flp65_7 : xF 65 42 22 8 (.object "java/util/HashMap$TreeNode") false := ⟨_, _, _, _, rfl, by decide, Or.inl q1905, Or.inl rfl, by decide +kernel, rfl⟩
theorem flp65_8 : xF 65 45 21 1 (.object "java/lang/Object") true := ⟨_, _, _, _, rfl, by decide, Or.inl q1845, Or.inr q1846, by decide +kernel, rfl⟩
theorem flp65_9 : xF 65 45 22 3 (.object "java/lang/Object") true := ⟨_, _, _, _, rfl, by decide, Or.inl q1845, Or.inr q1846, by decide +kernel, rfl⟩
theorem flp65_10 : xF 65 93 22 10 .boolean false := ⟨_, _, _, _, rfl, by decide, Or.inl q1908, Or.inl rfl, by decide +kernel, rfl⟩
theorem flp65_11 : xF 65 112 21 3 (.object "java/util/HashMap$Node") false := ⟨_, _, _, _, rfl, by decide, Or.inl q1853, Or.inl rfl, by decide +kernel, rfl⟩
theorem flp65_12 : xF 65 112 22 5 (.object "java/util/HashMap$Node") false := ⟨_, _, _, _, rfl, by decide, Or.inl q1853, Or.inl rfl, by decide +kernel, rfl⟩
theorem flo65 : ∀ e ∈ flT65, xF 65 e.1 e.2.1 e.2.2.1 e.2.2.2.1 e.2.2.2.2 := List.forall_mem_cons.mpr ⟨flp65_0, List.forall_mem_cons.mpr ⟨flp65_1, List.forall_mem_cons.mpr ⟨flp65_2, List.forall_mem_cons.mpr ⟨flp65_3, List.forall_mem_cons.mpr ⟨flp65_4, List.forall_mem_cons.mpr ⟨flp65_5, List.forall_mem_cons.mpr ⟨flp65_6, List.forall_mem_cons.mpr ⟨flp65_7, List.forall_mem_cons.mpr ⟨flp65_8, List.forall_mem_cons.mpr ⟨flp65_9, List.forall_mem_cons.mpr ⟨flp65_10, List.forall_mem_cons.mpr ⟨flp65_11, List.forall_mem_cons.mpr ⟨flp65_12, (fun _ h => by cases h)⟩⟩⟩⟩⟩⟩⟩⟩⟩⟩⟩⟩⟩
def flT66 : List (Nat × Nat × Nat × FieldType × Bool) := []
theorem flo66 : ∀ e ∈ flT66, xF 66 e.1 e.2.1 e.2.2.1 e.2.2.2.1 e.2.2.2.2 := (fun _ h => by cases h)
def flT67 : List (Nat × Nat × Nat × FieldType × Bool) := []
theorem flo67 : ∀ e ∈ flT67, xF 67 e.1 e.2.1 e.2.2.1 e.2.2.2.1 e.2.2.2.2 := (fun _ h => by cases h)
def flT68 : List (Nat × Nat × Nat × FieldType × Bool) := [(13, 14, 0, (.object "java/lang/Object"), true)]
theorem flp68_0 : xF 68 13 14 0 (.object "java/lang/Object") true := ⟨_, _, _, _, rfl, by decide, Or.inl q1572, Or.inl rfl, by decide +kernel, rfl⟩
theorem flo68 : ∀ e ∈ flT68, xF 68 e.1 e.2.1 e.2.2.1 e.2.2.2.1 e.2.2.2.2 := List.forall_mem_cons.mpr ⟨flp68_0, (fun _ h => by cases h)⟩
def flT69 : List (Nat × Nat × Nat × FieldType × Bool) := []
theorem flo69 : ∀ e ∈ flT69, xF 69 e.1 e.2.1 e.2.2.1 e.2.2.2.1 e.2.2.2.2 := (fun _ h => by cases h)
def flT70 : List (Nat × Nat × Nat × FieldType × Bool) := []
theorem flo70 : ∀ e ∈ flT70, xF 70 e.1 e.2.1 e.2.2.1 e.2.2.2.1 e.2.2.2.2 := (fun _ h => by cases h)
def flT71 : List (Nat × Nat × Nat × FieldType × Bool) := []
theorem flo71 : ∀ e ∈ flT71, xF 71 e.1 e.2.1 e.2.2.1 e.2.2.2.1 e.2.2.2.2 := (fun _ h => by cases h)
def flL (oc : Nat) : List (Nat × Nat × Nat × FieldType × Bool) := match oc with
  | 0 => flT0
  | 1 => flT1
  | 2 => flT2
  | 3 => flT3
  | 4 => flT4
  | 5 => flT5
  | 6 => flT6
  | 7 => flT7
  | 8 => flT8
  | 9 => flT9
  | 10 => flT10
  | 11 => flT11
  | 12 => flT12
  | 13 => flT13
  | 14 => flT14
  | 15 => flT15
  | 16 => flT16
  | 17 => flT17
  | 18 => flT18
  | 19 => flT19
  | 20 => flT20
  | 21 => flT21
  | 22 => flT22
  | 23 => flT23
  | 24 => flT24
  | 25 => flT25
  | 26 => flT26
  | 27 => flT27
  | 28 => flT28
  | 29 => flT29
  | 30 => flT30
  | 31 => flT31
  | 32 => flT32
  | 33 => flT33
  | 34 => flT34
  | 35 => flT35
  | 36 => flT36
  | 37 => flT37
  | 38 => flT38
  | 39 => flT39
  | 40 => flT40
  | 41 => flT41
  | 42 => flT42
  | 43 => flT43
  | 44 => flT44
  | 45 => flT45
  | 46 => flT46
  | 47 => flT47
  | 48 => flT48
  | 49 => flT49
  | 50 => flT50
  | 51 => flT51
  | 52 => flT52
  | 53 => flT53
  | 54 => flT54
  | 55 => flT55
  | 56 => flT56
  | 57 => flT57
  | 58 => flT58
  | 59 => flT59
  | 60 => flT60
  | 61 => flT61
  | 62 => flT62
  | 63 => flT63
  | 64 => flT64
  | 65 => flT65
  | 66 => flT66
  | 67 => flT67
  | 68 => flT68
  | 69 => flT69
  | 70 => flT70
  | 71 => flT71
  | _ => []
theorem flL_ok : ∀ oc, ∀ e ∈ flL oc, xF oc e.1 e.2.1 e.2.2.1 e.2.2.2.1 e.2.2.2.2 := by
  intro oc
  unfold flL
  split
  · exact flo0
  · exact flo1
  · exact flo2
  · exact flo3
  · exact flo4
  · exact flo5
  · exact flo6
  · exact flo7
  · exact flo8
  · exact flo9
  · exact flo10
  · exact flo11
  · exact flo12
  · exact flo13
  · exact flo14
  · exact flo15
  · exact flo16
  · exact flo17
  · exact flo18
  · exact flo19
  · exact flo20
  · exact flo21
  · exact flo22
  · exact flo23
  · exact flo24
  · exact flo25
  · exact flo26
  · exact flo27
  · exact flo28
  · exact flo29
  · exact flo30
  · exact flo31
  · exact flo32
  · exact flo33
  · exact flo34
  · exact flo35
  · exact flo36
  · exact flo37
  · exact flo38
  · exact flo39
  · exact flo40
  · exact flo41
  · exact flo42
  · exact flo43
  · exact flo44
  · exact flo45
  · exact flo46
  · exact flo47
  · exact flo48
  · exact flo49
  · exact flo50
  · exact flo51
  · exact flo52
  · exact flo53
  · exact flo54
  · exact flo55
  · exact flo56
  · exact flo57
  · exact flo58
  · exact flo59
  · exact flo60
  · exact flo61
  · exact flo62
  · exact flo63
  · exact flo64
  · exact flo65
  · exact flo66
  · exact flo67
  · exact flo68
  · exact flo69
  · exact flo70
  · exact flo71
  · intro e h; cases h
/-- field k of an object of class ci, by the entry idx of the class oc -/
def fl (oc idx ci : Nat) : Option (Nat × FieldType × Bool) := ((flL oc).find? (fun e => e.1 == idx && e.2.1 == ci)).map (fun e => e.2.2)
theorem fl_ok {oc idx ci : Nat} {q : Nat × FieldType × Bool} (h : fl oc idx ci = some q) : xF oc idx ci q.1 q.2.1 q.2.2 := by
  unfold fl at h
  obtain ⟨e, he, rfl⟩ := Option.map_eq_some_iff.mp h
  have h1 := List.find?_some he
  have h2 := List.mem_of_find?_eq_some he
  simp only [Bool.and_eq_true, beq_iff_eq] at h1
  have := flL_ok oc e h2
  rw [h1.1, h1.2] at this
  exact this
