set_option maxRecDepth 100000
def xMk (I : xI) (n : Nat) : Prop := xCode I ∈ lw_all ∧ Cond.initialized (iY I).cls ∈ lw_all ∧ ((iY I).cls ≠ "java/lang/invoke/MethodHandle" ∧ (iY I).cls ≠ "java/lang/invoke/VarHandle") ∧ (parseMethodDescriptor (iY I).desc).map (fun d => d.parameters.length) = some n ∧ iL I ≤ 19 ∧ ocN (iO I) = (iY I).cls
def iX0_feed : xI := (yX0_feed, 33, cX0_feed, 8, (Option.some Jvm.ClassFile.FieldType.int), [(0, 16, 19, 13)])
theorem kX0_feed : xMk iX0_feed 7 := ⟨q2497, q111, ⟨by decide +kernel, by decide +kernel⟩, by decide +kernel, by decide, rfl⟩
def iX0_trim : xI := (yX0_trim, 33, cX0_trim, 4, (Option.some Jvm.ClassFile.FieldType.int), [(0, 9, 12, 19)])
theorem kX0_trim : xMk iX0_trim 3 := ⟨q2527, q111, ⟨by decide +kernel, by decide +kernel⟩, by decide +kernel, by decide, rfl⟩
def iX0_count : xI := (yX0_count, 33, cX0_count, 4, (Option.some Jvm.ClassFile.FieldType.int), [(0, 9, 12, 24)])
theorem kX0_count : xMk iX0_count 3 := ⟨q2546, q111, ⟨by decide +kernel, by decide +kernel⟩, by decide +kernel, by decide, rfl⟩
def iX0_point : xI := (yX0_point, 33, cX0_point, 5, (Option.some Jvm.ClassFile.FieldType.int), [(0, 10, 13, 24)])
theorem kX0_point : xMk iX0_point 4 := ⟨q2569, q111, ⟨by decide +kernel, by decide +kernel⟩, by decide +kernel, by decide, rfl⟩
def iX0_shape : xI := (yX0_shape, 33, cX0_shape, 5, (Option.some Jvm.ClassFile.FieldType.int), [(0, 10, 13, 24)])
theorem kX0_shape : xMk iX0_shape 4 := ⟨q2576, q111, ⟨by decide +kernel, by decide +kernel⟩, by decide +kernel, by decide, rfl⟩
def iX0_corner : xI := (yX0_corner, 33, cX0_corner, 5, (Option.some Jvm.ClassFile.FieldType.int), [(0, 10, 13, 24)])
theorem kX0_corner : xMk iX0_corner 4 := ⟨q2588, q111, ⟨by decide +kernel, by decide +kernel⟩, by decide +kernel, by decide, rfl⟩
def iX0_lies : xI := (yX0_lies, 33, cX0_lies, 5, (Option.some Jvm.ClassFile.FieldType.int), [(0, 10, 13, 24)])
theorem kX0_lies : xMk iX0_lies 4 := ⟨q2595, q111, ⟨by decide +kernel, by decide +kernel⟩, by decide +kernel, by decide, rfl⟩
def iX0_crosses : xI := (yX0_crosses, 33, cX0_crosses, 5, (Option.some Jvm.ClassFile.FieldType.int), [(0, 10, 13, 24)])
theorem kX0_crosses : xMk iX0_crosses 4 := ⟨q2603, q111, ⟨by decide +kernel, by decide +kernel⟩, by decide +kernel, by decide, rfl⟩
def iX0_hull : xI := (yX0_hull, 33, cX0_hull, 5, (Option.some Jvm.ClassFile.FieldType.int), [(0, 10, 13, 24)])
theorem kX0_hull : xMk iX0_hull 4 := ⟨q2610, q111, ⟨by decide +kernel, by decide +kernel⟩, by decide +kernel, by decide, rfl⟩
def iX0_hullCorner : xI := (yX0_hullCorner, 33, cX0_hullCorner, 5, (Option.some Jvm.ClassFile.FieldType.int), [(0, 10, 13, 24)])
theorem kX0_hullCorner : xMk iX0_hullCorner 4 := ⟨q2617, q111, ⟨by decide +kernel, by decide +kernel⟩, by decide +kernel, by decide, rfl⟩
def iX0_nearest : xI := (yX0_nearest, 33, cX0_nearest, 5, (Option.some Jvm.ClassFile.FieldType.int), [(0, 10, 13, 19)])
theorem kX0_nearest : xMk iX0_nearest 4 := ⟨q2624, q111, ⟨by decide +kernel, by decide +kernel⟩, by decide +kernel, by decide, rfl⟩
def iX0_enter : xI := (yX0_enter, 33, cX0_enter, 5, (Option.some Jvm.ClassFile.FieldType.int), [(0, 10, 13, 24)])
theorem kX0_enter : xMk iX0_enter 4 := ⟨q2632, q111, ⟨by decide +kernel, by decide +kernel⟩, by decide +kernel, by decide, rfl⟩
def iX0_put : xI := (yX0_put, 33, cX0_put, 6, (Option.some Jvm.ClassFile.FieldType.int), [(0, 12, 15, 24), (0, 12, 19, 19)])
theorem kX0_put : xMk iX0_put 5 := ⟨q2639, q111, ⟨by decide +kernel, by decide +kernel⟩, by decide +kernel, by decide, rfl⟩
def iX0_carry : xI := (yX0_carry, 33, cX0_carry, 4, (Option.some Jvm.ClassFile.FieldType.int), [(0, 16, 19, 24)])
theorem kX0_carry : xMk iX0_carry 3 := ⟨q2647, q111, ⟨by decide +kernel, by decide +kernel⟩, by decide +kernel, by decide, rfl⟩
def iX0_undo : xI := (yX0_undo, 33, cX0_undo, 3, (Option.some Jvm.ClassFile.FieldType.int), [(0, 8, 11, 13)])
theorem kX0_undo : xMk iX0_undo 2 := ⟨q2655, q111, ⟨by decide +kernel, by decide +kernel⟩, by decide +kernel, by decide, rfl⟩
def iX0_step : xI := (yX0_step, 33, cX0_step, 5, (Option.some Jvm.ClassFile.FieldType.int), [(0, 10, 13, 24)])
theorem kX0_step : xMk iX0_step 4 := ⟨q2668, q111, ⟨by decide +kernel, by decide +kernel⟩, by decide +kernel, by decide, rfl⟩
def iX0_would : xI := (yX0_would, 33, cX0_would, 4, (Option.some Jvm.ClassFile.FieldType.int), [(0, 9, 12, 24)])
theorem kX0_would : xMk iX0_would 3 := ⟨q2675, q111, ⟨by decide +kernel, by decide +kernel⟩, by decide +kernel, by decide, rfl⟩
def iX0_without : xI := (yX0_without, 33, cX0_without, 4, (Option.some Jvm.ClassFile.FieldType.int), [(0, 9, 12, 24)])
theorem kX0_without : xMk iX0_without 3 := ⟨q2708, q111, ⟨by decide +kernel, by decide +kernel⟩, by decide +kernel, by decide, rfl⟩
def iX1_init : xI := (yX1_init, 0, cX1_init, 1, (Option.none : Option Jvm.ClassFile.FieldType), [])
theorem kX1_init : xMk iX1_init 0 := ⟨q181, q112, ⟨by decide +kernel, by decide +kernel⟩, by decide +kernel, by decide, rfl⟩
def iX1_teach : xI := (yX1_teach, 0, cX1_teach, 3, (Option.some Jvm.ClassFile.FieldType.int), [(7, 35, 38, 109)])
theorem kX1_teach : xMk iX1_teach 0 := ⟨q302, q112, ⟨by decide +kernel, by decide +kernel⟩, by decide +kernel, by decide, rfl⟩
def iX1_side : xI := (yX1_side, 0, cX1_side, 6, (Option.some Jvm.ClassFile.FieldType.int), [])
theorem kX1_side : xMk iX1_side 6 := ⟨q1748, q112, ⟨by decide +kernel, by decide +kernel⟩, by decide +kernel, by decide, rfl⟩
def iX1_held : xI := (yX1_held, 0, cX1_held, 2, (Option.some Jvm.ClassFile.FieldType.int), [])
theorem kX1_held : xMk iX1_held 1 := ⟨q1792, q112, ⟨by decide +kernel, by decide +kernel⟩, by decide +kernel, by decide, rfl⟩
def iX1_errorAt : xI := (yX1_errorAt, 0, cX1_errorAt, 1, (Option.some Jvm.ClassFile.FieldType.int), [])
theorem kX1_errorAt : xMk iX1_errorAt 0 := ⟨q2168, q112, ⟨by decide +kernel, by decide +kernel⟩, by decide +kernel, by decide, rfl⟩
def iX1_run : xI := (yX1_run, 0, cX1_run, 1, (Option.some Jvm.ClassFile.FieldType.int), [])
theorem kX1_run : xMk iX1_run 0 := ⟨q2172, q112, ⟨by decide +kernel, by decide +kernel⟩, by decide +kernel, by decide, rfl⟩
def iX1_isBetween : xI := (yX1_isBetween, 0, cX1_isBetween, 3, (Option.some Jvm.ClassFile.FieldType.boolean), [])
theorem kX1_isBetween : xMk iX1_isBetween 3 := ⟨q2243, q112, ⟨by decide +kernel, by decide +kernel⟩, by decide +kernel, by decide, rfl⟩
def iX1_mean : xI := (yX1_mean, 0, cX1_mean, 1, (Option.some Jvm.ClassFile.FieldType.double), [])
theorem kX1_mean : xMk iX1_mean 0 := ⟨q2295, q112, ⟨by decide +kernel, by decide +kernel⟩, by decide +kernel, by decide, rfl⟩
def iX1_digest : xI := (yX1_digest, 0, cX1_digest, 7, (Option.some Jvm.ClassFile.FieldType.long), [])
theorem kX1_digest : xMk iX1_digest 0 := ⟨q2357, q112, ⟨by decide +kernel, by decide +kernel⟩, by decide +kernel, by decide, rfl⟩
def iX1_count : xI := (yX1_count, 0, cX1_count, 7, (Option.some Jvm.ClassFile.FieldType.int), [])
theorem kX1_count : xMk iX1_count 1 := ⟨q2363, q112, ⟨by decide +kernel, by decide +kernel⟩, by decide +kernel, by decide, rfl⟩
def iX1_requireIndex : xI := (yX1_requireIndex, 0, cX1_requireIndex, 2, (Option.none : Option Jvm.ClassFile.FieldType), [])
theorem kX1_requireIndex : xMk iX1_requireIndex 2 := ⟨q2366, q112, ⟨by decide +kernel, by decide +kernel⟩, by decide +kernel, by decide, rfl⟩
def iX1_pointGet : xI := (yX1_pointGet, 0, cX1_pointGet, 10, (Option.some Jvm.ClassFile.FieldType.int), [])
theorem kX1_pointGet : xMk iX1_pointGet 2 := ⟨q2402, q112, ⟨by decide +kernel, by decide +kernel⟩, by decide +kernel, by decide, rfl⟩
def iX1_shapeGet : xI := (yX1_shapeGet, 0, cX1_shapeGet, 2, (Option.some Jvm.ClassFile.FieldType.int), [])
theorem kX1_shapeGet : xMk iX1_shapeGet 2 := ⟨q2412, q112, ⟨by decide +kernel, by decide +kernel⟩, by decide +kernel, by decide, rfl⟩
def iX1_divisor : xI := (yX1_divisor, 0, cX1_divisor, 2, (Option.some Jvm.ClassFile.FieldType.int), [])
theorem kX1_divisor : xMk iX1_divisor 2 := ⟨q2424, q112, ⟨by decide +kernel, by decide +kernel⟩, by decide +kernel, by decide, rfl⟩
def iX1_hullGet : xI := (yX1_hullGet, 0, cX1_hullGet, 2, (Option.some Jvm.ClassFile.FieldType.int), [])
theorem kX1_hullGet : xMk iX1_hullGet 2 := ⟨q2432, q112, ⟨by decide +kernel, by decide +kernel⟩, by decide +kernel, by decide, rfl⟩
def iX1_stepGet : xI := (yX1_stepGet, 0, cX1_stepGet, 4, (Option.some Jvm.ClassFile.FieldType.int), [])
theorem kX1_stepGet : xMk iX1_stepGet 2 := ⟨q2482, q112, ⟨by decide +kernel, by decide +kernel⟩, by decide +kernel, by decide, rfl⟩
def iX1_feed : xI := (yX1_feed, 0, cX1_feed, 6, (Option.some Jvm.ClassFile.FieldType.int), [])
theorem kX1_feed : xMk iX1_feed 5 := ⟨q2502, q112, ⟨by decide +kernel, by decide +kernel⟩, by decide +kernel, by decide, rfl⟩
def iX1_requireState : xI := (yX1_requireState, 0, cX1_requireState, 1, (Option.none : Option Jvm.ClassFile.FieldType), [])
theorem kX1_requireState : xMk iX1_requireState 1 := ⟨q2505, q112, ⟨by decide +kernel, by decide +kernel⟩, by decide +kernel, by decide, rfl⟩
def iX1_trim : xI := (yX1_trim, 0, cX1_trim, 2, (Option.some Jvm.ClassFile.FieldType.int), [])
theorem kX1_trim : xMk iX1_trim 1 := ⟨q2532, q112, ⟨by decide +kernel, by decide +kernel⟩, by decide +kernel, by decide, rfl⟩
def iX1_requireFrom : xI := (yX1_requireFrom, 0, cX1_requireFrom, 3, (Option.none : Option Jvm.ClassFile.FieldType), [])
theorem kX1_requireFrom : xMk iX1_requireFrom 3 := ⟨q2535, q112, ⟨by decide +kernel, by decide +kernel⟩, by decide +kernel, by decide, rfl⟩
def iX1_require : xI := (yX1_require, 0, cX1_require, 1, (Option.none : Option Jvm.ClassFile.FieldType), [])
theorem kX1_require : xMk iX1_require 1 := ⟨q2538, q112, ⟨by decide +kernel, by decide +kernel⟩, by decide +kernel, by decide, rfl⟩
def iX1_point : xI := (yX1_point, 0, cX1_point, 3, (Option.some Jvm.ClassFile.FieldType.int), [])
theorem kX1_point : xMk iX1_point 2 := ⟨q2573, q112, ⟨by decide +kernel, by decide +kernel⟩, by decide +kernel, by decide, rfl⟩
def iX1_shape : xI := (yX1_shape, 0, cX1_shape, 4, (Option.some Jvm.ClassFile.FieldType.int), [])
theorem kX1_shape : xMk iX1_shape 2 := ⟨q2580, q112, ⟨by decide +kernel, by decide +kernel⟩, by decide +kernel, by decide, rfl⟩
def iX1_at : xI := (yX1_at, 0, cX1_at, 2, (Option.some (Jvm.ClassFile.FieldType.object "java/lang/Object")), [])
theorem kX1_at : xMk iX1_at 2 := ⟨q2583, q112, ⟨by decide +kernel, by decide +kernel⟩, by decide +kernel, by decide, rfl⟩
def iX1_corner : xI := (yX1_corner, 0, cX1_corner, 4, (Option.some Jvm.ClassFile.FieldType.int), [])
theorem kX1_corner : xMk iX1_corner 2 := ⟨q2592, q112, ⟨by decide +kernel, by decide +kernel⟩, by decide +kernel, by decide, rfl⟩
def iX1_lies : xI := (yX1_lies, 0, cX1_lies, 3, (Option.some Jvm.ClassFile.FieldType.int), [])
theorem kX1_lies : xMk iX1_lies 2 := ⟨q2599, q112, ⟨by decide +kernel, by decide +kernel⟩, by decide +kernel, by decide, rfl⟩
def iX1_crosses : xI := (yX1_crosses, 0, cX1_crosses, 4, (Option.some Jvm.ClassFile.FieldType.int), [])
theorem kX1_crosses : xMk iX1_crosses 2 := ⟨q2607, q112, ⟨by decide +kernel, by decide +kernel⟩, by decide +kernel, by decide, rfl⟩
def iX1_hull : xI := (yX1_hull, 0, cX1_hull, 4, (Option.some Jvm.ClassFile.FieldType.int), [])
theorem kX1_hull : xMk iX1_hull 2 := ⟨q2614, q112, ⟨by decide +kernel, by decide +kernel⟩, by decide +kernel, by decide, rfl⟩
def iX1_hullCorner : xI := (yX1_hullCorner, 0, cX1_hullCorner, 3, (Option.some Jvm.ClassFile.FieldType.int), [])
theorem kX1_hullCorner : xMk iX1_hullCorner 2 := ⟨q2621, q112, ⟨by decide +kernel, by decide +kernel⟩, by decide +kernel, by decide, rfl⟩
def iX1_nearest : xI := (yX1_nearest, 0, cX1_nearest, 5, (Option.some Jvm.ClassFile.FieldType.int), [])
theorem kX1_nearest : xMk iX1_nearest 2 := ⟨q2628, q112, ⟨by decide +kernel, by decide +kernel⟩, by decide +kernel, by decide, rfl⟩
def iX1_enter : xI := (yX1_enter, 0, cX1_enter, 8, (Option.some Jvm.ClassFile.FieldType.int), [])
theorem kX1_enter : xMk iX1_enter 2 := ⟨q2636, q112, ⟨by decide +kernel, by decide +kernel⟩, by decide +kernel, by decide, rfl⟩
def iX1_put : xI := (yX1_put, 0, cX1_put, 5, (Option.some Jvm.ClassFile.FieldType.int), [])
theorem kX1_put : xMk iX1_put 3 := ⟨q2643, q112, ⟨by decide +kernel, by decide +kernel⟩, by decide +kernel, by decide, rfl⟩
def iX1_carry : xI := (yX1_carry, 0, cX1_carry, 4, (Option.some Jvm.ClassFile.FieldType.boolean), [])
theorem kX1_carry : xMk iX1_carry 1 := ⟨q2651, q112, ⟨by decide +kernel, by decide +kernel⟩, by decide +kernel, by decide, rfl⟩
def iX1_undo : xI := (yX1_undo, 0, cX1_undo, 5, (Option.some Jvm.ClassFile.FieldType.int), [])
theorem kX1_undo : xMk iX1_undo 0 := ⟨q2659, q112, ⟨by decide +kernel, by decide +kernel⟩, by decide +kernel, by decide, rfl⟩
def iX1_step : xI := (yX1_step, 0, cX1_step, 3, (Option.some Jvm.ClassFile.FieldType.int), [])
theorem kX1_step : xMk iX1_step 2 := ⟨q2672, q112, ⟨by decide +kernel, by decide +kernel⟩, by decide +kernel, by decide, rfl⟩
def iX1_would : xI := (yX1_would, 0, cX1_would, 3, (Option.some Jvm.ClassFile.FieldType.int), [])
theorem kX1_would : xMk iX1_would 1 := ⟨q2679, q112, ⟨by decide +kernel, by decide +kernel⟩, by decide +kernel, by decide, rfl⟩
def iX1_without : xI := (yX1_without, 0, cX1_without, 3, (Option.some Jvm.ClassFile.FieldType.int), [])
theorem kX1_without : xMk iX1_without 1 := ⟨q2712, q112, ⟨by decide +kernel, by decide +kernel⟩, by decide +kernel, by decide, rfl⟩
def iX2_init : xI := (yX2_init, 25, cX2_init, 1, (Option.none : Option Jvm.ClassFile.FieldType), [])
theorem kX2_init : xMk iX2_init 0 := ⟨q189, q113, ⟨by decide +kernel, by decide +kernel⟩, by decide +kernel, by decide, rfl⟩
def iX2_at : xI := (yX2_at, 25, cX2_at, 2, (Option.some Jvm.ClassFile.FieldType.int), [])
theorem kX2_at : xMk iX2_at 1 := ⟨q328, q113, ⟨by decide +kernel, by decide +kernel⟩, by decide +kernel, by decide, rfl⟩
def iX2_text : xI := (yX2_text, 25, cX2_text, 5, (Option.some (Jvm.ClassFile.FieldType.object "java/lang/String")), [])
theorem kX2_text : xMk iX2_text 2 := ⟨q373, q113, ⟨by decide +kernel, by decide +kernel⟩, by decide +kernel, by decide, rfl⟩
def iX2_put : xI := (yX2_put, 25, cX2_put, 3, (Option.none : Option Jvm.ClassFile.FieldType), [])
theorem kX2_put : xMk iX2_put 1 := ⟨q2524, q113, ⟨by decide +kernel, by decide +kernel⟩, by decide +kernel, by decide, rfl⟩
def iX3_init : xI := (yX3_init, 23, cX3_init, 1, (Option.none : Option Jvm.ClassFile.FieldType), [])
theorem kX3_init : xMk iX3_init 0 := ⟨q205, q114, ⟨by decide +kernel, by decide +kernel⟩, by decide +kernel, by decide, rfl⟩
def iX3_put : xI := (yX3_put, 23, cX3_put, 6, (Option.none : Option Jvm.ClassFile.FieldType), [])
theorem kX3_put : xMk iX3_put 3 := ⟨q1789, q114, ⟨by decide +kernel, by decide +kernel⟩, by decide +kernel, by decide, rfl⟩
def iX3_where : xI := (yX3_where, 23, cX3_where, 2, (Option.some (Jvm.ClassFile.FieldType.array Jvm.ClassFile.FieldType.int)), [])
theorem kX3_where : xMk iX3_where 0 := ⟨q2176, q114, ⟨by decide +kernel, by decide +kernel⟩, by decide +kernel, by decide, rfl⟩
def iX3_keep : xI := (yX3_keep, 23, cX3_keep, 2, (Option.none : Option Jvm.ClassFile.FieldType), [])
theorem kX3_keep : xMk iX3_keep 1 := ⟨q2181, q114, ⟨by decide +kernel, by decide +kernel⟩, by decide +kernel, by decide, rfl⟩
def iX3_run : xI := (yX3_run, 23, cX3_run, 3, (Option.some Jvm.ClassFile.FieldType.int), [])
theorem kX3_run : xMk iX3_run 0 := ⟨q2196, q114, ⟨by decide +kernel, by decide +kernel⟩, by decide +kernel, by decide, rfl⟩
def iX3_carry : xI := (yX3_carry, 23, cX3_carry, 3, (Option.some Jvm.ClassFile.FieldType.boolean), [])
theorem kX3_carry : xMk iX3_carry 1 := ⟨q2200, q114, ⟨by decide +kernel, by decide +kernel⟩, by decide +kernel, by decide, rfl⟩
def iX3_areas : xI := (yX3_areas, 23, cX3_areas, 4, (Option.some Jvm.ClassFile.FieldType.int), [])
theorem kX3_areas : xMk iX3_areas 0 := ⟨q2303, q114, ⟨by decide +kernel, by decide +kernel⟩, by decide +kernel, by decide, rfl⟩
def iX3_crossings : xI := (yX3_crossings, 23, cX3_crossings, 4, (Option.some Jvm.ClassFile.FieldType.int), [])
theorem kX3_crossings : xMk iX3_crossings 0 := ⟨q2388, q114, ⟨by decide +kernel, by decide +kernel⟩, by decide +kernel, by decide, rfl⟩
def iX3_inside : xI := (yX3_inside, 23, cX3_inside, 3, (Option.some Jvm.ClassFile.FieldType.int), [])
theorem kX3_inside : xMk iX3_inside 0 := ⟨q2393, q114, ⟨by decide +kernel, by decide +kernel⟩, by decide +kernel, by decide, rfl⟩
def iX3_insideOf : xI := (yX3_insideOf, 23, cX3_insideOf, 5, (Option.some Jvm.ClassFile.FieldType.int), [])
theorem kX3_insideOf : xMk iX3_insideOf 1 := ⟨q2397, q114, ⟨by decide +kernel, by decide +kernel⟩, by decide +kernel, by decide, rfl⟩
def iX3_isAhead : xI := (yX3_isAhead, 23, cX3_isAhead, 3, (Option.some Jvm.ClassFile.FieldType.boolean), [])
theorem kX3_isAhead : xMk iX3_isAhead 2 := ⟨q2440, q114, ⟨by decide +kernel, by decide +kernel⟩, by decide +kernel, by decide, rfl⟩
def iX3_isSame : xI := (yX3_isSame, 23, cX3_isSame, 3, (Option.some Jvm.ClassFile.FieldType.boolean), [])
theorem kX3_isSame : xMk iX3_isSame 2 := ⟨q2453, q114, ⟨by decide +kernel, by decide +kernel⟩, by decide +kernel, by decide, rfl⟩
def iX3_square : xI := (yX3_square, 23, cX3_square, 4, (Option.some Jvm.ClassFile.FieldType.int), [])
theorem kX3_square : xMk iX3_square 3 := ⟨q2457, q114, ⟨by decide +kernel, by decide +kernel⟩, by decide +kernel, by decide, rfl⟩
def iX3_bring : xI := (yX3_bring, 23, cX3_bring, 2, (Option.none : Option Jvm.ClassFile.FieldType), [])
theorem kX3_bring : xMk iX3_bring 1 := ⟨q2665, q114, ⟨by decide +kernel, by decide +kernel⟩, by decide +kernel, by decide, rfl⟩
def iX3_as : xI := (yX3_as, 23, cX3_as, 9, (Option.some (Jvm.ClassFile.FieldType.object "GridTable$Table")), [])
theorem kX3_as : xMk iX3_as 1 := ⟨q2683, q114, ⟨by decide +kernel, by decide +kernel⟩, by decide +kernel, by decide, rfl⟩
def iJ0_init : xI := (yJ0_init, 57, cJ0_init, 1, (Option.none : Option Jvm.ClassFile.FieldType), [])
theorem kJ0_init : xMk iJ0_init 0 := ⟨q217, q115, ⟨by decide +kernel, by decide +kernel⟩, by decide +kernel, by decide, rfl⟩
def iJ1_init : xI := (yJ1_init, 58, cJ1_init, 1, (Option.none : Option Jvm.ClassFile.FieldType), [])
theorem kJ1_init : xMk iJ1_init 0 := ⟨q214, q116, ⟨by decide +kernel, by decide +kernel⟩, by decide +kernel, by decide, rfl⟩
def iJ2_init : xI := (yJ2_init, 60, cJ2_init, 1, (Option.none : Option Jvm.ClassFile.FieldType), [])
theorem kJ2_init : xMk iJ2_init 0 := ⟨q211, q117, ⟨by decide +kernel, by decide +kernel⟩, by decide +kernel, by decide, rfl⟩
def iJ2_size : xI := (yJ2_size, 60, cJ2_size, 1, (Option.some Jvm.ClassFile.FieldType.int), [])
theorem kJ2_size : xMk iJ2_size 0 := ⟨q339, q117, ⟨by decide +kernel, by decide +kernel⟩, by decide +kernel, by decide, rfl⟩
def iJ2_add : xI := (yJ2_add, 60, cJ2_add, 2, (Option.some Jvm.ClassFile.FieldType.boolean), [])
theorem kJ2_add : xMk iJ2_add 1 := ⟨q783, q117, ⟨by decide +kernel, by decide +kernel⟩, by decide +kernel, by decide, rfl⟩
def iJ2_add_2 : xI := (yJ2_add_2, 60, cJ2_add_2, 4, (Option.none : Option Jvm.ClassFile.FieldType), [])
theorem kJ2_add_2 : xMk iJ2_add_2 3 := ⟨q787, q117, ⟨by decide +kernel, by decide +kernel⟩, by decide +kernel, by decide, rfl⟩
def iJ2_grow : xI := (yJ2_grow, 60, cJ2_grow, 1, (Option.some (Jvm.ClassFile.FieldType.array (Jvm.ClassFile.FieldType.object "java/lang/Object"))), [])
theorem kJ2_grow : xMk iJ2_grow 0 := ⟨q791, q117, ⟨by decide +kernel, by decide +kernel⟩, by decide +kernel, by decide, rfl⟩
def iJ2_grow_2 : xI := (yJ2_grow_2, 60, cJ2_grow_2, 4, (Option.some (Jvm.ClassFile.FieldType.array (Jvm.ClassFile.FieldType.object "java/lang/Object"))), [])
theorem kJ2_grow_2 : xMk iJ2_grow_2 1 := ⟨q795, q117, ⟨by decide +kernel, by decide +kernel⟩, by decide +kernel, by decide, rfl⟩
def iJ2_get : xI := (yJ2_get, 60, cJ2_get, 2, (Option.some (Jvm.ClassFile.FieldType.object "java/lang/Object")), [])
theorem kJ2_get : xMk iJ2_get 1 := ⟨q946, q117, ⟨by decide +kernel, by decide +kernel⟩, by decide +kernel, by decide, rfl⟩
def iJ2_elementData : xI := (yJ2_elementData, 60, cJ2_elementData, 2, (Option.some (Jvm.ClassFile.FieldType.object "java/lang/Object")), [])
theorem kJ2_elementData : xMk iJ2_elementData 1 := ⟨q954, q117, ⟨by decide +kernel, by decide +kernel⟩, by decide +kernel, by decide, rfl⟩
def iJ2_contains : xI := (yJ2_contains, 60, cJ2_contains, 2, (Option.some Jvm.ClassFile.FieldType.boolean), [])
theorem kJ2_contains : xMk iJ2_contains 1 := ⟨q1972, q117, ⟨by decide +kernel, by decide +kernel⟩, by decide +kernel, by decide, rfl⟩
def iJ2_indexOf : xI := (yJ2_indexOf, 60, cJ2_indexOf, 2, (Option.some Jvm.ClassFile.FieldType.int), [])
theorem kJ2_indexOf : xMk iJ2_indexOf 1 := ⟨q1976, q117, ⟨by decide +kernel, by decide +kernel⟩, by decide +kernel, by decide, rfl⟩
def iJ2_indexOfRange : xI := (yJ2_indexOfRange, 60, cJ2_indexOfRange, 6, (Option.some Jvm.ClassFile.FieldType.int), [])
theorem kJ2_indexOfRange : xMk iJ2_indexOfRange 3 := ⟨q1980, q117, ⟨by decide +kernel, by decide +kernel⟩, by decide +kernel, by decide, rfl⟩
def iJ2_remove : xI := (yJ2_remove, 60, cJ2_remove, 4, (Option.some (Jvm.ClassFile.FieldType.object "java/lang/Object")), [])
theorem kJ2_remove : xMk iJ2_remove 1 := ⟨q2187, q117, ⟨by decide +kernel, by decide +kernel⟩, by decide +kernel, by decide, rfl⟩
def iJ2_fastRemove : xI := (yJ2_fastRemove, 60, cJ2_fastRemove, 4, (Option.none : Option Jvm.ClassFile.FieldType), [])
theorem kJ2_fastRemove : xMk iJ2_fastRemove 2 := ⟨q2191, q117, ⟨by decide +kernel, by decide +kernel⟩, by decide +kernel, by decide, rfl⟩
def iJ2_isEmpty : xI := (yJ2_isEmpty, 60, cJ2_isEmpty, 1, (Option.some Jvm.ClassFile.FieldType.boolean), [])
theorem kJ2_isEmpty : xMk iJ2_isEmpty 0 := ⟨q2299, q117, ⟨by decide +kernel, by decide +kernel⟩, by decide +kernel, by decide, rfl⟩
def iJ2_iterator : xI := (yJ2_iterator, 60, cJ2_iterator, 1, (Option.some (Jvm.ClassFile.FieldType.object "java/util/Iterator")), [])
theorem kJ2_iterator : xMk iJ2_iterator 0 := ⟨q2307, q117, ⟨by decide +kernel, by decide +kernel⟩, by decide +kernel, by decide, rfl⟩
def iJ2_clear : xI := (yJ2_clear, 60, cJ2_clear, 4, (Option.none : Option Jvm.ClassFile.FieldType), [])
theorem kJ2_clear : xMk iJ2_clear 0 := ⟨q2687, q117, ⟨by decide +kernel, by decide +kernel⟩, by decide +kernel, by decide, rfl⟩
def iJ2_addAll : xI := (yJ2_addAll, 60, cJ2_addAll, 6, (Option.some Jvm.ClassFile.FieldType.boolean), [])
theorem kJ2_addAll : xMk iJ2_addAll 1 := ⟨q2693, q117, ⟨by decide +kernel, by decide +kernel⟩, by decide +kernel, by decide, rfl⟩
def iJ2_toArray : xI := (yJ2_toArray, 60, cJ2_toArray, 1, (Option.some (Jvm.ClassFile.FieldType.array (Jvm.ClassFile.FieldType.object "java/lang/Object"))), [])
theorem kJ2_toArray : xMk iJ2_toArray 0 := ⟨q2703, q117, ⟨by decide +kernel, by decide +kernel⟩, by decide +kernel, by decide, rfl⟩
def iX4_init : xI := (yX4_init, 34, cX4_init, 2, (Option.none : Option Jvm.ClassFile.FieldType), [])
theorem kX4_init : xMk iX4_init 0 := ⟨q2717, q118, ⟨by decide +kernel, by decide +kernel⟩, by decide +kernel, by decide, rfl⟩
def iX4_thrown : xI := (yX4_thrown, 34, cX4_thrown, 1, (Option.some Jvm.ClassFile.FieldType.int), [])
theorem kX4_thrown : xMk iX4_thrown 0 := ⟨q2853, q118, ⟨by decide +kernel, by decide +kernel⟩, by decide +kernel, by decide, rfl⟩
def iX4_feed : xI := (yX4_feed, 34, cX4_feed, 8, (Option.some Jvm.ClassFile.FieldType.int), [])
theorem kX4_feed : xMk iX4_feed 5 := ⟨q2857, q118, ⟨by decide +kernel, by decide +kernel⟩, by decide +kernel, by decide, rfl⟩
def iX4_no : xI := (yX4_no, 34, cX4_no, 2, (Option.some Jvm.ClassFile.FieldType.int), [])
theorem kX4_no : xMk iX4_no 1 := ⟨q2861, q118, ⟨by decide +kernel, by decide +kernel⟩, by decide +kernel, by decide, rfl⟩
def iX4_trim : xI := (yX4_trim, 34, cX4_trim, 2, (Option.some Jvm.ClassFile.FieldType.int), [])
theorem kX4_trim : xMk iX4_trim 1 := ⟨q2865, q118, ⟨by decide +kernel, by decide +kernel⟩, by decide +kernel, by decide, rfl⟩
def iX4_isIn : xI := (yX4_isIn, 34, cX4_isIn, 3, (Option.some Jvm.ClassFile.FieldType.boolean), [])
theorem kX4_isIn : xMk iX4_isIn 3 := ⟨q2868, q118, ⟨by decide +kernel, by decide +kernel⟩, by decide +kernel, by decide, rfl⟩
def iX4_teach : xI := (yX4_teach, 34, cX4_teach, 5, (Option.some Jvm.ClassFile.FieldType.int), [])
theorem kX4_teach : xMk iX4_teach 0 := ⟨q2872, q118, ⟨by decide +kernel, by decide +kernel⟩, by decide +kernel, by decide, rfl⟩
def iX4_read : xI := (yX4_read, 34, cX4_read, 5, (Option.some Jvm.ClassFile.FieldType.int), [])
theorem kX4_read : xMk iX4_read 2 := ⟨q2876, q118, ⟨by decide +kernel, by decide +kernel⟩, by decide +kernel, by decide, rfl⟩
def iX4_cutIntoTokens : xI := (yX4_cutIntoTokens, 34, cX4_cutIntoTokens, 4, (Option.none : Option Jvm.ClassFile.FieldType), [])
theorem kX4_cutIntoTokens : xMk iX4_cutIntoTokens 1 := ⟨q2880, q118, ⟨by decide +kernel, by decide +kernel⟩, by decide +kernel, by decide, rfl⟩
def iX4_byteOf : xI := (yX4_byteOf, 34, cX4_byteOf, 2, (Option.some Jvm.ClassFile.FieldType.int), [])
theorem kX4_byteOf : xMk iX4_byteOf 1 := ⟨q2884, q118, ⟨by decide +kernel, by decide +kernel⟩, by decide +kernel, by decide, rfl⟩
def iX4_kindAt : xI := (yX4_kindAt, 34, cX4_kindAt, 7, (Option.some Jvm.ClassFile.FieldType.int), [])
theorem kX4_kindAt : xMk iX4_kindAt 3 := ⟨q2888, q118, ⟨by decide +kernel, by decide +kernel⟩, by decide +kernel, by decide, rfl⟩
def iX4_isSmall : xI := (yX4_isSmall, 34, cX4_isSmall, 1, (Option.some Jvm.ClassFile.FieldType.boolean), [])
theorem kX4_isSmall : xMk iX4_isSmall 1 := ⟨q2891, q118, ⟨by decide +kernel, by decide +kernel⟩, by decide +kernel, by decide, rfl⟩
def iX4_isDigit : xI := (yX4_isDigit, 34, cX4_isDigit, 1, (Option.some Jvm.ClassFile.FieldType.boolean), [])
theorem kX4_isDigit : xMk iX4_isDigit 1 := ⟨q2894, q118, ⟨by decide +kernel, by decide +kernel⟩, by decide +kernel, by decide, rfl⟩
def iX4_word : xI := (yX4_word, 34, cX4_word, 6, (Option.some Jvm.ClassFile.FieldType.int), [])
theorem kX4_word : xMk iX4_word 2 := ⟨q2898, q118, ⟨by decide +kernel, by decide +kernel⟩, by decide +kernel, by decide, rfl⟩
def iX4_isList : xI := (yX4_isList, 34, cX4_isList, 2, (Option.some Jvm.ClassFile.FieldType.boolean), [])
theorem kX4_isList : xMk iX4_isList 1 := ⟨q2908, q118, ⟨by decide +kernel, by decide +kernel⟩, by decide +kernel, by decide, rfl⟩
def iX4_isLine : xI := (yX4_isLine, 34, cX4_isLine, 2, (Option.some Jvm.ClassFile.FieldType.boolean), [])
theorem kX4_isLine : xMk iX4_isLine 1 := ⟨q2912, q118, ⟨by decide +kernel, by decide +kernel⟩, by decide +kernel, by decide, rfl⟩
def iX4_eat : xI := (yX4_eat, 34, cX4_eat, 7, (Option.some Jvm.ClassFile.FieldType.boolean), [])
theorem kX4_eat : xMk iX4_eat 2 := ⟨q2916, q118, ⟨by decide +kernel, by decide +kernel⟩, by decide +kernel, by decide, rfl⟩
def iX4_areSums : xI := (yX4_areSums, 34, cX4_areSums, 2, (Option.some Jvm.ClassFile.FieldType.boolean), [])
theorem kX4_areSums : xMk iX4_areSums 1 := ⟨q2920, q118, ⟨by decide +kernel, by decide +kernel⟩, by decide +kernel, by decide, rfl⟩
def iX4_isSum : xI := (yX4_isSum, 34, cX4_isSum, 2, (Option.some Jvm.ClassFile.FieldType.boolean), [])
theorem kX4_isSum : xMk iX4_isSum 1 := ⟨q2924, q118, ⟨by decide +kernel, by decide +kernel⟩, by decide +kernel, by decide, rfl⟩
def iX4_isProduct : xI := (yX4_isProduct, 34, cX4_isProduct, 2, (Option.some Jvm.ClassFile.FieldType.boolean), [])
theorem kX4_isProduct : xMk iX4_isProduct 1 := ⟨q2928, q118, ⟨by decide +kernel, by decide +kernel⟩, by decide +kernel, by decide, rfl⟩
def iX4_isValue : xI := (yX4_isValue, 34, cX4_isValue, 2, (Option.some Jvm.ClassFile.FieldType.boolean), [])
theorem kX4_isValue : xMk iX4_isValue 1 := ⟨q2932, q118, ⟨by decide +kernel, by decide +kernel⟩, by decide +kernel, by decide, rfl⟩
def iX4_enter : xI := (yX4_enter, 34, cX4_enter, 3, (Option.some Jvm.ClassFile.FieldType.boolean), [])
theorem kX4_enter : xMk iX4_enter 2 := ⟨q2936, q118, ⟨by decide +kernel, by decide +kernel⟩, by decide +kernel, by decide, rfl⟩
def iX4_leave : xI := (yX4_leave, 34, cX4_leave, 3, (Option.some Jvm.ClassFile.FieldType.boolean), [])
theorem kX4_leave : xMk iX4_leave 2 := ⟨q2940, q118, ⟨by decide +kernel, by decide +kernel⟩, by decide +kernel, by decide, rfl⟩
def iX4_isShapeLine : xI := (yX4_isShapeLine, 34, cX4_isShapeLine, 2, (Option.some Jvm.ClassFile.FieldType.boolean), [])
theorem kX4_isShapeLine : xMk iX4_isShapeLine 1 := ⟨q2944, q118, ⟨by decide +kernel, by decide +kernel⟩, by decide +kernel, by decide, rfl⟩
def iX4_mayTest : xI := (yX4_mayTest, 34, cX4_mayTest, 2, (Option.some Jvm.ClassFile.FieldType.boolean), [])
theorem kX4_mayTest : xMk iX4_mayTest 1 := ⟨q2948, q118, ⟨by decide +kernel, by decide +kernel⟩, by decide +kernel, by decide, rfl⟩
def iX4_isTest : xI := (yX4_isTest, 34, cX4_isTest, 2, (Option.some Jvm.ClassFile.FieldType.boolean), [])
theorem kX4_isTest : xMk iX4_isTest 1 := ⟨q2952, q118, ⟨by decide +kernel, by decide +kernel⟩, by decide +kernel, by decide, rfl⟩
def iX4_isBoth : xI := (yX4_isBoth, 34, cX4_isBoth, 2, (Option.some Jvm.ClassFile.FieldType.boolean), [])
theorem kX4_isBoth : xMk iX4_isBoth 1 := ⟨q2956, q118, ⟨by decide +kernel, by decide +kernel⟩, by decide +kernel, by decide, rfl⟩
def iX4_isSingle : xI := (yX4_isSingle, 34, cX4_isSingle, 2, (Option.some Jvm.ClassFile.FieldType.boolean), [])
theorem kX4_isSingle : xMk iX4_isSingle 1 := ⟨q2960, q118, ⟨by decide +kernel, by decide +kernel⟩, by decide +kernel, by decide, rfl⟩
def iX4_errorOf : xI := (yX4_errorOf, 34, cX4_errorOf, 4, (Option.some Jvm.ClassFile.FieldType.int), [])
theorem kX4_errorOf : xMk iX4_errorOf 3 := ⟨q2964, q118, ⟨by decide +kernel, by decide +kernel⟩, by decide +kernel, by decide, rfl⟩
def iX4_errorOfName : xI := (yX4_errorOfName, 34, cX4_errorOfName, 6, (Option.some Jvm.ClassFile.FieldType.int), [])
theorem kX4_errorOfName : xMk iX4_errorOfName 2 := ⟨q2968, q118, ⟨by decide +kernel, by decide +kernel⟩, by decide +kernel, by decide, rfl⟩
def iX4_text : xI := (yX4_text, 34, cX4_text, 5, (Option.some (Jvm.ClassFile.FieldType.object "java/lang/String")), [])
theorem kX4_text : xMk iX4_text 2 := ⟨q2972, q118, ⟨by decide +kernel, by decide +kernel⟩, by decide +kernel, by decide, rfl⟩
def iX4_errorOfNew : xI := (yX4_errorOfNew, 34, cX4_errorOfNew, 3, (Option.some Jvm.ClassFile.FieldType.int), [])
theorem kX4_errorOfNew : xMk iX4_errorOfNew 3 := ⟨q2979, q118, ⟨by decide +kernel, by decide +kernel⟩, by decide +kernel, by decide, rfl⟩
def iX4_find : xI := (yX4_find, 34, cX4_find, 4, (Option.some Jvm.ClassFile.FieldType.int), [])
theorem kX4_find : xMk iX4_find 3 := ⟨q2982, q118, ⟨by decide +kernel, by decide +kernel⟩, by decide +kernel, by decide, rfl⟩
def iX4_isOfShape : xI := (yX4_isOfShape, 34, cX4_isOfShape, 4, (Option.some Jvm.ClassFile.FieldType.boolean), [])
theorem kX4_isOfShape : xMk iX4_isOfShape 2 := ⟨q2986, q118, ⟨by decide +kernel, by decide +kernel⟩, by decide +kernel, by decide, rfl⟩
def iX4_errorOfCorner : xI := (yX4_errorOfCorner, 34, cX4_errorOfCorner, 5, (Option.some Jvm.ClassFile.FieldType.int), [])
theorem kX4_errorOfCorner : xMk iX4_errorOfCorner 2 := ⟨q2990, q118, ⟨by decide +kernel, by decide +kernel⟩, by decide +kernel, by decide, rfl⟩
def iX4_number : xI := (yX4_number, 34, cX4_number, 5, (Option.some Jvm.ClassFile.FieldType.int), [])
theorem kX4_number : xMk iX4_number 2 := ⟨q2994, q118, ⟨by decide +kernel, by decide +kernel⟩, by decide +kernel, by decide, rfl⟩
def iX4_end : xI := (yX4_end, 34, cX4_end, 6, (Option.none : Option Jvm.ClassFile.FieldType), [])
theorem kX4_end : xMk iX4_end 2 := ⟨q2998, q118, ⟨by decide +kernel, by decide +kernel⟩, by decide +kernel, by decide, rfl⟩
def iX4_sum : xI := (yX4_sum, 34, cX4_sum, 4, (Option.some Jvm.ClassFile.FieldType.int), [])
theorem kX4_sum : xMk iX4_sum 0 := ⟨q3002, q118, ⟨by decide +kernel, by decide +kernel⟩, by decide +kernel, by decide, rfl⟩
def iX4_product : xI := (yX4_product, 34, cX4_product, 4, (Option.some Jvm.ClassFile.FieldType.int), [])
theorem kX4_product : xMk iX4_product 0 := ⟨q3006, q118, ⟨by decide +kernel, by decide +kernel⟩, by decide +kernel, by decide, rfl⟩
def iX4_value : xI := (yX4_value, 34, cX4_value, 4, (Option.some Jvm.ClassFile.FieldType.int), [])
theorem kX4_value : xMk iX4_value 0 := ⟨q3010, q118, ⟨by decide +kernel, by decide +kernel⟩, by decide +kernel, by decide, rfl⟩
def iX4_meant : xI := (yX4_meant, 34, cX4_meant, 1, (Option.some Jvm.ClassFile.FieldType.int), [])
theorem kX4_meant : xMk iX4_meant 0 := ⟨q3014, q118, ⟨by decide +kernel, by decide +kernel⟩, by decide +kernel, by decide, rfl⟩
def iX4_areaOf : xI := (yX4_areaOf, 34, cX4_areaOf, 2, (Option.some Jvm.ClassFile.FieldType.int), [])
theorem kX4_areaOf : xMk iX4_areaOf 1 := ⟨q3018, q118, ⟨by decide +kernel, by decide +kernel⟩, by decide +kernel, by decide, rfl⟩
def iX4_signedArea : xI := (yX4_signedArea, 34, cX4_signedArea, 6, (Option.some Jvm.ClassFile.FieldType.int), [])
theorem kX4_signedArea : xMk iX4_signedArea 1 := ⟨q3022, q118, ⟨by decide +kernel, by decide +kernel⟩, by decide +kernel, by decide, rfl⟩
def iX4_cornerOf : xI := (yX4_cornerOf, 34, cX4_cornerOf, 3, (Option.some Jvm.ClassFile.FieldType.int), [])
theorem kX4_cornerOf : xMk iX4_cornerOf 2 := ⟨q3026, q118, ⟨by decide +kernel, by decide +kernel⟩, by decide +kernel, by decide, rfl⟩
def iX4_crossings : xI := (yX4_crossings, 34, cX4_crossings, 6, (Option.some Jvm.ClassFile.FieldType.int), [])
theorem kX4_crossings : xMk iX4_crossings 2 := ⟨q3031, q118, ⟨by decide +kernel, by decide +kernel⟩, by decide +kernel, by decide, rfl⟩
def iX4_doCross : xI := (yX4_doCross, 34, cX4_doCross, 9, (Option.some Jvm.ClassFile.FieldType.boolean), [])
theorem kX4_doCross : xMk iX4_doCross 4 := ⟨q3035, q118, ⟨by decide +kernel, by decide +kernel⟩, by decide +kernel, by decide, rfl⟩
def iX4_sideOf : xI := (yX4_sideOf, 34, cX4_sideOf, 4, (Option.some Jvm.ClassFile.FieldType.int), [])
theorem kX4_sideOf : xMk iX4_sideOf 3 := ⟨q3039, q118, ⟨by decide +kernel, by decide +kernel⟩, by decide +kernel, by decide, rfl⟩
def iX4_side : xI := (yX4_side, 34, cX4_side, 5, (Option.some Jvm.ClassFile.FieldType.int), [])
theorem kX4_side : xMk iX4_side 4 := ⟨q3043, q118, ⟨by decide +kernel, by decide +kernel⟩, by decide +kernel, by decide, rfl⟩
def iX4_areApart : xI := (yX4_areApart, 34, cX4_areApart, 2, (Option.some Jvm.ClassFile.FieldType.boolean), [])
theorem kX4_areApart : xMk iX4_areApart 2 := ⟨q3046, q118, ⟨by decide +kernel, by decide +kernel⟩, by decide +kernel, by decide, rfl⟩
def iX4_held : xI := (yX4_held, 34, cX4_held, 2, (Option.some Jvm.ClassFile.FieldType.int), [])
theorem kX4_held : xMk iX4_held 1 := ⟨q3051, q118, ⟨by decide +kernel, by decide +kernel⟩, by decide +kernel, by decide, rfl⟩
def iX4_errorAt : xI := (yX4_errorAt, 34, cX4_errorAt, 1, (Option.some Jvm.ClassFile.FieldType.int), [])
theorem kX4_errorAt : xMk iX4_errorAt 0 := ⟨q3059, q118, ⟨by decide +kernel, by decide +kernel⟩, by decide +kernel, by decide, rfl⟩
def iX4_count : xI := (yX4_count, 34, cX4_count, 2, (Option.some Jvm.ClassFile.FieldType.int), [])
theorem kX4_count : xMk iX4_count 1 := ⟨q3063, q118, ⟨by decide +kernel, by decide +kernel⟩, by decide +kernel, by decide, rfl⟩
def iX4_look : xI := (yX4_look, 34, cX4_look, 2, (Option.none : Option Jvm.ClassFile.FieldType), [])
theorem kX4_look : xMk iX4_look 1 := ⟨q3067, q118, ⟨by decide +kernel, by decide +kernel⟩, by decide +kernel, by decide, rfl⟩
def iX4_counted : xI := (yX4_counted, 34, cX4_counted, 2, (Option.some Jvm.ClassFile.FieldType.int), [])
theorem kX4_counted : xMk iX4_counted 1 := ⟨q3071, q118, ⟨by decide +kernel, by decide +kernel⟩, by decide +kernel, by decide, rfl⟩
def iX4_areas : xI := (yX4_areas, 34, cX4_areas, 3, (Option.some Jvm.ClassFile.FieldType.int), [])
theorem kX4_areas : xMk iX4_areas 0 := ⟨q3075, q118, ⟨by decide +kernel, by decide +kernel⟩, by decide +kernel, by decide, rfl⟩
def iX4_allCrossings : xI := (yX4_allCrossings, 34, cX4_allCrossings, 4, (Option.some Jvm.ClassFile.FieldType.int), [])
theorem kX4_allCrossings : xMk iX4_allCrossings 0 := ⟨q3079, q118, ⟨by decide +kernel, by decide +kernel⟩, by decide +kernel, by decide, rfl⟩
def iX4_insiders : xI := (yX4_insiders, 34, cX4_insiders, 3, (Option.some Jvm.ClassFile.FieldType.int), [])
theorem kX4_insiders : xMk iX4_insiders 0 := ⟨q3083, q118, ⟨by decide +kernel, by decide +kernel⟩, by decide +kernel, by decide, rfl⟩
def iX4_shapesAround : xI := (yX4_shapesAround, 34, cX4_shapesAround, 4, (Option.some Jvm.ClassFile.FieldType.int), [])
theorem kX4_shapesAround : xMk iX4_shapesAround 1 := ⟨q3087, q118, ⟨by decide +kernel, by decide +kernel⟩, by decide +kernel, by decide, rfl⟩
def iX4_liesOf : xI := (yX4_liesOf, 34, cX4_liesOf, 3, (Option.some Jvm.ClassFile.FieldType.int), [])
theorem kX4_liesOf : xMk iX4_liesOf 2 := ⟨q3091, q118, ⟨by decide +kernel, by decide +kernel⟩, by decide +kernel, by decide, rfl⟩
def iX4_liesAt : xI := (yX4_liesAt, 34, cX4_liesAt, 11, (Option.some Jvm.ClassFile.FieldType.int), [])
theorem kX4_liesAt : xMk iX4_liesAt 3 := ⟨q3095, q118, ⟨by decide +kernel, by decide +kernel⟩, by decide +kernel, by decide, rfl⟩
def iX4_isBetween : xI := (yX4_isBetween, 34, cX4_isBetween, 4, (Option.some Jvm.ClassFile.FieldType.boolean), [])
theorem kX4_isBetween : xMk iX4_isBetween 3 := ⟨q3099, q118, ⟨by decide +kernel, by decide +kernel⟩, by decide +kernel, by decide, rfl⟩
def iX4_point : xI := (yX4_point, 34, cX4_point, 3, (Option.some Jvm.ClassFile.FieldType.int), [])
theorem kX4_point : xMk iX4_point 2 := ⟨q3103, q118, ⟨by decide +kernel, by decide +kernel⟩, by decide +kernel, by decide, rfl⟩
def iX4_isPoint : xI := (yX4_isPoint, 34, cX4_isPoint, 2, (Option.some Jvm.ClassFile.FieldType.boolean), [])
theorem kX4_isPoint : xMk iX4_isPoint 1 := ⟨q3107, q118, ⟨by decide +kernel, by decide +kernel⟩, by decide +kernel, by decide, rfl⟩
def iX4_pointTold : xI := (yX4_pointTold, 34, cX4_pointTold, 3, (Option.some Jvm.ClassFile.FieldType.int), [])
theorem kX4_pointTold : xMk iX4_pointTold 2 := ⟨q3111, q118, ⟨by decide +kernel, by decide +kernel⟩, by decide +kernel, by decide, rfl⟩
def iX4_cornersAt : xI := (yX4_cornersAt, 34, cX4_cornersAt, 5, (Option.some Jvm.ClassFile.FieldType.int), [])
theorem kX4_cornersAt : xMk iX4_cornersAt 1 := ⟨q3115, q118, ⟨by decide +kernel, by decide +kernel⟩, by decide +kernel, by decide, rfl⟩
def iX4_shape : xI := (yX4_shape, 34, cX4_shape, 3, (Option.some Jvm.ClassFile.FieldType.int), [])
theorem kX4_shape : xMk iX4_shape 2 := ⟨q3119, q118, ⟨by decide +kernel, by decide +kernel⟩, by decide +kernel, by decide, rfl⟩
def iX4_isShape : xI := (yX4_isShape, 34, cX4_isShape, 2, (Option.some Jvm.ClassFile.FieldType.boolean), [])
theorem kX4_isShape : xMk iX4_isShape 1 := ⟨q3123, q118, ⟨by decide +kernel, by decide +kernel⟩, by decide +kernel, by decide, rfl⟩
def iX4_shapeTold : xI := (yX4_shapeTold, 34, cX4_shapeTold, 3, (Option.some Jvm.ClassFile.FieldType.int), [])
theorem kX4_shapeTold : xMk iX4_shapeTold 2 := ⟨q3127, q118, ⟨by decide +kernel, by decide +kernel⟩, by decide +kernel, by decide, rfl⟩
def iX4_gridPoints : xI := (yX4_gridPoints, 34, cX4_gridPoints, 6, (Option.some Jvm.ClassFile.FieldType.int), [])
theorem kX4_gridPoints : xMk iX4_gridPoints 1 := ⟨q3132, q118, ⟨by decide +kernel, by decide +kernel⟩, by decide +kernel, by decide, rfl⟩
def iX4_divisor : xI := (yX4_divisor, 34, cX4_divisor, 2, (Option.some Jvm.ClassFile.FieldType.int), [])
theorem kX4_divisor : xMk iX4_divisor 2 := ⟨q3135, q118, ⟨by decide +kernel, by decide +kernel⟩, by decide +kernel, by decide, rfl⟩
def iX4_neverRight : xI := (yX4_neverRight, 34, cX4_neverRight, 3, (Option.some Jvm.ClassFile.FieldType.int), [])
theorem kX4_neverRight : xMk iX4_neverRight 1 := ⟨q3139, q118, ⟨by decide +kernel, by decide +kernel⟩, by decide +kernel, by decide, rfl⟩
def iX4_corner : xI := (yX4_corner, 34, cX4_corner, 3, (Option.some Jvm.ClassFile.FieldType.int), [])
theorem kX4_corner : xMk iX4_corner 2 := ⟨q3143, q118, ⟨by decide +kernel, by decide +kernel⟩, by decide +kernel, by decide, rfl⟩
def iX4_lies : xI := (yX4_lies, 34, cX4_lies, 3, (Option.some Jvm.ClassFile.FieldType.int), [])
theorem kX4_lies : xMk iX4_lies 2 := ⟨q3147, q118, ⟨by decide +kernel, by decide +kernel⟩, by decide +kernel, by decide, rfl⟩
def iX4_crosses : xI := (yX4_crosses, 34, cX4_crosses, 3, (Option.some Jvm.ClassFile.FieldType.int), [])
theorem kX4_crosses : xMk iX4_crosses 2 := ⟨q3151, q118, ⟨by decide +kernel, by decide +kernel⟩, by decide +kernel, by decide, rfl⟩
def iX4_hull : xI := (yX4_hull, 34, cX4_hull, 3, (Option.some Jvm.ClassFile.FieldType.int), [])
theorem kX4_hull : xMk iX4_hull 2 := ⟨q3155, q118, ⟨by decide +kernel, by decide +kernel⟩, by decide +kernel, by decide, rfl⟩
def iX4_hullTold : xI := (yX4_hullTold, 34, cX4_hullTold, 3, (Option.some Jvm.ClassFile.FieldType.int), [])
theorem kX4_hullTold : xMk iX4_hullTold 2 := ⟨q3159, q118, ⟨by decide +kernel, by decide +kernel⟩, by decide +kernel, by decide, rfl⟩
def iX4_wrap : xI := (yX4_wrap, 34, cX4_wrap, 4, (Option.none : Option Jvm.ClassFile.FieldType), [])
theorem kX4_wrap : xMk iX4_wrap 1 := ⟨q3163, q118, ⟨by decide +kernel, by decide +kernel⟩, by decide +kernel, by decide, rfl⟩
def iX4_isEarlier : xI := (yX4_isEarlier, 34, cX4_isEarlier, 3, (Option.some Jvm.ClassFile.FieldType.boolean), [])
theorem kX4_isEarlier : xMk iX4_isEarlier 2 := ⟨q3167, q118, ⟨by decide +kernel, by decide +kernel⟩, by decide +kernel, by decide, rfl⟩
def iX4_nextOf : xI := (yX4_nextOf, 34, cX4_nextOf, 9, (Option.some Jvm.ClassFile.FieldType.int), [])
theorem kX4_nextOf : xMk iX4_nextOf 2 := ⟨q3171, q118, ⟨by decide +kernel, by decide +kernel⟩, by decide +kernel, by decide, rfl⟩
def iX4_areSame : xI := (yX4_areSame, 34, cX4_areSame, 3, (Option.some Jvm.ClassFile.FieldType.boolean), [])
theorem kX4_areSame : xMk iX4_areSame 2 := ⟨q3175, q118, ⟨by decide +kernel, by decide +kernel⟩, by decide +kernel, by decide, rfl⟩
def iX4_square : xI := (yX4_square, 34, cX4_square, 3, (Option.some Jvm.ClassFile.FieldType.int), [])
theorem kX4_square : xMk iX4_square 2 := ⟨q3179, q118, ⟨by decide +kernel, by decide +kernel⟩, by decide +kernel, by decide, rfl⟩
def iX4_hullArea : xI := (yX4_hullArea, 34, cX4_hullArea, 5, (Option.some Jvm.ClassFile.FieldType.int), [])
theorem kX4_hullArea : xMk iX4_hullArea 0 := ⟨q3183, q118, ⟨by decide +kernel, by decide +kernel⟩, by decide +kernel, by decide, rfl⟩
def iX4_widest : xI := (yX4_widest, 34, cX4_widest, 5, (Option.some Jvm.ClassFile.FieldType.int), [])
theorem kX4_widest : xMk iX4_widest 1 := ⟨q3187, q118, ⟨by decide +kernel, by decide +kernel⟩, by decide +kernel, by decide, rfl⟩
def iX4_hullCorner : xI := (yX4_hullCorner, 34, cX4_hullCorner, 3, (Option.some Jvm.ClassFile.FieldType.int), [])
theorem kX4_hullCorner : xMk iX4_hullCorner 2 := ⟨q3191, q118, ⟨by decide +kernel, by decide +kernel⟩, by decide +kernel, by decide, rfl⟩
def iX4_nearest : xI := (yX4_nearest, 34, cX4_nearest, 7, (Option.some Jvm.ClassFile.FieldType.int), [])
theorem kX4_nearest : xMk iX4_nearest 2 := ⟨q3195, q118, ⟨by decide +kernel, by decide +kernel⟩, by decide +kernel, by decide, rfl⟩
def iX4_enter_2 : xI := (yX4_enter_2, 34, cX4_enter_2, 4, (Option.some Jvm.ClassFile.FieldType.int), [])
theorem kX4_enter_2 : xMk iX4_enter_2 2 := ⟨q3199, q118, ⟨by decide +kernel, by decide +kernel⟩, by decide +kernel, by decide, rfl⟩
def iX4_entersBy : xI := (yX4_entersBy, 34, cX4_entersBy, 6, (Option.some Jvm.ClassFile.FieldType.boolean), [])
theorem kX4_entersBy : xMk iX4_entersBy 3 := ⟨q3203, q118, ⟨by decide +kernel, by decide +kernel⟩, by decide +kernel, by decide, rfl⟩
def iX4_put : xI := (yX4_put, 34, cX4_put, 6, (Option.some Jvm.ClassFile.FieldType.int), [])
theorem kX4_put : xMk iX4_put 3 := ⟨q3207, q118, ⟨by decide +kernel, by decide +kernel⟩, by decide +kernel, by decide, rfl⟩
def iX4_keep : xI := (yX4_keep, 34, cX4_keep, 2, (Option.none : Option Jvm.ClassFile.FieldType), [])
theorem kX4_keep : xMk iX4_keep 1 := ⟨q3211, q118, ⟨by decide +kernel, by decide +kernel⟩, by decide +kernel, by decide, rfl⟩
def iX4_carry : xI := (yX4_carry, 34, cX4_carry, 2, (Option.some Jvm.ClassFile.FieldType.boolean), [])
theorem kX4_carry : xMk iX4_carry 1 := ⟨q3220, q118, ⟨by decide +kernel, by decide +kernel⟩, by decide +kernel, by decide, rfl⟩
def iX4_isStep : xI := (yX4_isStep, 34, cX4_isStep, 2, (Option.some Jvm.ClassFile.FieldType.boolean), [])
theorem kX4_isStep : xMk iX4_isStep 1 := ⟨q3224, q118, ⟨by decide +kernel, by decide +kernel⟩, by decide +kernel, by decide, rfl⟩
def iX4_go : xI := (yX4_go, 34, cX4_go, 11, (Option.some Jvm.ClassFile.FieldType.boolean), [])
theorem kX4_go : xMk iX4_go 1 := ⟨q3228, q118, ⟨by decide +kernel, by decide +kernel⟩, by decide +kernel, by decide, rfl⟩
def iX4_holds : xI := (yX4_holds, 34, cX4_holds, 2, (Option.some Jvm.ClassFile.FieldType.boolean), [])
theorem kX4_holds : xMk iX4_holds 1 := ⟨q3232, q118, ⟨by decide +kernel, by decide +kernel⟩, by decide +kernel, by decide, rfl⟩
def iX4_testOf : xI := (yX4_testOf, 34, cX4_testOf, 3, (Option.some Jvm.ClassFile.FieldType.int), [])
theorem kX4_testOf : xMk iX4_testOf 1 := ⟨q3236, q118, ⟨by decide +kernel, by decide +kernel⟩, by decide +kernel, by decide, rfl⟩
def iX4_test : xI := (yX4_test, 34, cX4_test, 2, (Option.some Jvm.ClassFile.FieldType.boolean), [])
theorem kX4_test : xMk iX4_test 0 := ⟨q3240, q118, ⟨by decide +kernel, by decide +kernel⟩, by decide +kernel, by decide, rfl⟩
def iX4_both : xI := (yX4_both, 34, cX4_both, 2, (Option.some Jvm.ClassFile.FieldType.boolean), [])
theorem kX4_both : xMk iX4_both 0 := ⟨q3244, q118, ⟨by decide +kernel, by decide +kernel⟩, by decide +kernel, by decide, rfl⟩
def iX4_single : xI := (yX4_single, 34, cX4_single, 4, (Option.some Jvm.ClassFile.FieldType.boolean), [])
theorem kX4_single : xMk iX4_single 0 := ⟨q3248, q118, ⟨by decide +kernel, by decide +kernel⟩, by decide +kernel, by decide, rfl⟩
def iX4_goesBy : xI := (yX4_goesBy, 34, cX4_goesBy, 2, (Option.some Jvm.ClassFile.FieldType.boolean), [])
theorem kX4_goesBy : xMk iX4_goesBy 1 := ⟨q3252, q118, ⟨by decide +kernel, by decide +kernel⟩, by decide +kernel, by decide, rfl⟩
def iX4_run : xI := (yX4_run, 34, cX4_run, 3, (Option.some Jvm.ClassFile.FieldType.int), [])
theorem kX4_run : xMk iX4_run 0 := ⟨q3256, q118, ⟨by decide +kernel, by decide +kernel⟩, by decide +kernel, by decide, rfl⟩
def iX4_undo : xI := (yX4_undo, 34, cX4_undo, 4, (Option.some Jvm.ClassFile.FieldType.int), [])
theorem kX4_undo : xMk iX4_undo 0 := ⟨q3260, q118, ⟨by decide +kernel, by decide +kernel⟩, by decide +kernel, by decide, rfl⟩
def iX4_step : xI := (yX4_step, 34, cX4_step, 3, (Option.some Jvm.ClassFile.FieldType.int), [])
theorem kX4_step : xMk iX4_step 2 := ⟨q3264, q118, ⟨by decide +kernel, by decide +kernel⟩, by decide +kernel, by decide, rfl⟩
def iX4_stepTold : xI := (yX4_stepTold, 34, cX4_stepTold, 5, (Option.some Jvm.ClassFile.FieldType.int), [])
theorem kX4_stepTold : xMk iX4_stepTold 2 := ⟨q3268, q118, ⟨by decide +kernel, by decide +kernel⟩, by decide +kernel, by decide, rfl⟩
def iX4_would : xI := (yX4_would, 34, cX4_would, 3, (Option.some Jvm.ClassFile.FieldType.int), [])
theorem kX4_would : xMk iX4_would 1 := ⟨q3272, q118, ⟨by decide +kernel, by decide +kernel⟩, by decide +kernel, by decide, rfl⟩
def iX4_goAll : xI := (yX4_goAll, 34, cX4_goAll, 4, (Option.some Jvm.ClassFile.FieldType.int), [])
theorem kX4_goAll : xMk iX4_goAll 1 := ⟨q3276, q118, ⟨by decide +kernel, by decide +kernel⟩, by decide +kernel, by decide, rfl⟩
def iX4_without : xI := (yX4_without, 34, cX4_without, 2, (Option.some Jvm.ClassFile.FieldType.int), [])
theorem kX4_without : xMk iX4_without 1 := ⟨q3280, q118, ⟨by decide +kernel, by decide +kernel⟩, by decide +kernel, by decide, rfl⟩
def iX4_mean : xI := (yX4_mean, 34, cX4_mean, 1, (Option.some Jvm.ClassFile.FieldType.double), [])
theorem kX4_mean : xMk iX4_mean 0 := ⟨q3284, q118, ⟨by decide +kernel, by decide +kernel⟩, by decide +kernel, by decide, rfl⟩
def iX4_digest : xI := (yX4_digest, 34, cX4_digest, 5, (Option.some Jvm.ClassFile.FieldType.long), [])
theorem kX4_digest : xMk iX4_digest 0 := ⟨q3288, q118, ⟨by decide +kernel, by decide +kernel⟩, by decide +kernel, by decide, rfl⟩
def iX5_init : xI := (yX5_init, 36, cX5_init, 1, (Option.none : Option Jvm.ClassFile.FieldType), [])
theorem kX5_init : xMk iX5_init 0 := ⟨q2723, q119, ⟨by decide +kernel, by decide +kernel⟩, by decide +kernel, by decide, rfl⟩
def iX6_init : xI := (yX6_init, 35, cX6_init, 1, (Option.none : Option Jvm.ClassFile.FieldType), [])
theorem kX6_init : xMk iX6_init 0 := ⟨q2780, q120, ⟨by decide +kernel, by decide +kernel⟩, by decide +kernel, by decide, rfl⟩
def iX6_become : xI := (yX6_become, 35, cX6_become, 2, (Option.none : Option Jvm.ClassFile.FieldType), [])
theorem kX6_become : xMk iX6_become 1 := ⟨q3215, q120, ⟨by decide +kernel, by decide +kernel⟩, by decide +kernel, by decide, rfl⟩
def iJ3_init : xI := (yJ3_init, 56, cJ3_init, 1, (Option.none : Option Jvm.ClassFile.FieldType), [])
theorem kJ3_init : xMk iJ3_init 0 := ⟨q561, q121, ⟨by decide +kernel, by decide +kernel⟩, by decide +kernel, by decide, rfl⟩
def iJ3_init_2 : xI := (yJ3_init_2, 56, cJ3_init_2, 2, (Option.none : Option Jvm.ClassFile.FieldType), [])
theorem kJ3_init_2 : xMk iJ3_init_2 1 := ⟨q667, q121, ⟨by decide +kernel, by decide +kernel⟩, by decide +kernel, by decide, rfl⟩
def iJ4_init : xI := (yJ4_init, 41, cJ4_init, 2, (Option.none : Option Jvm.ClassFile.FieldType), [])
theorem kJ4_init : xMk iJ4_init 1 := ⟨q664, q122, ⟨by decide +kernel, by decide +kernel⟩, by decide +kernel, by decide, rfl⟩
def iJ4_init_2 : xI := (yJ4_init_2, 41, cJ4_init_2, 1, (Option.none : Option Jvm.ClassFile.FieldType), [])
theorem kJ4_init_2 : xMk iJ4_init_2 0 := ⟨q1000, q122, ⟨by decide +kernel, by decide +kernel⟩, by decide +kernel, by decide, rfl⟩
def iJ5_init : xI := (yJ5_init, 50, cJ5_init, 2, (Option.none : Option Jvm.ClassFile.FieldType), [])
theorem kJ5_init : xMk iJ5_init 1 := ⟨q661, q123, ⟨by decide +kernel, by decide +kernel⟩, by decide +kernel, by decide, rfl⟩
def iJ5_init_2 : xI := (yJ5_init_2, 50, cJ5_init_2, 1, (Option.none : Option Jvm.ClassFile.FieldType), [])
theorem kJ5_init_2 : xMk iJ5_init_2 0 := ⟨q2381, q123, ⟨by decide +kernel, by decide +kernel⟩, by decide +kernel, by decide, rfl⟩
def iJ6_init : xI := (yJ6_init, 43, cJ6_init, 1, (Option.none : Option Jvm.ClassFile.FieldType), [])
theorem kJ6_init : xMk iJ6_init 0 := ⟨q2517, q124, ⟨by decide +kernel, by decide +kernel⟩, by decide +kernel, by decide, rfl⟩
def iJ7_init : xI := (yJ7_init, 42, cJ7_init, 2, (Option.none : Option Jvm.ClassFile.FieldType), [])
theorem kJ7_init : xMk iJ7_init 1 := ⟨q658, q125, ⟨by decide +kernel, by decide +kernel⟩, by decide +kernel, by decide, rfl⟩
def iJ7_init_2 : xI := (yJ7_init_2, 42, cJ7_init_2, 1, (Option.none : Option Jvm.ClassFile.FieldType), [])
theorem kJ7_init_2 : xMk iJ7_init_2 0 := ⟨q2542, q125, ⟨by decide +kernel, by decide +kernel⟩, by decide +kernel, by decide, rfl⟩
def iX7_init : xI := (yX7_init, 12, cX7_init, 2, (Option.none : Option Jvm.ClassFile.FieldType), [])
theorem kX7_init : xMk iX7_init 1 := ⟨q867, q126, ⟨by decide +kernel, by decide +kernel⟩, by decide +kernel, by decide, rfl⟩
def iX7_read : xI := (yX7_read, 12, cX7_read, 1, (Option.some (Jvm.ClassFile.FieldType.object "GridTable$Table")), [])
theorem kX7_read : xMk iX7_read 0 := ⟨q928, q126, ⟨by decide +kernel, by decide +kernel⟩, by decide +kernel, by decide, rfl⟩
def iX7_list : xI := (yX7_list, 12, cX7_list, 2, (Option.none : Option Jvm.ClassFile.FieldType), [])
theorem kX7_list : xMk iX7_list 0 := ⟨q932, q126, ⟨by decide +kernel, by decide +kernel⟩, by decide +kernel, by decide, rfl⟩
def iX7_now : xI := (yX7_now, 12, cX7_now, 1, (Option.some (Jvm.ClassFile.FieldType.object "GridTable$Token")), [])
theorem kX7_now : xMk iX7_now 0 := ⟨q936, q126, ⟨by decide +kernel, by decide +kernel⟩, by decide +kernel, by decide, rfl⟩
def iX7_takeIf : xI := (yX7_takeIf, 12, cX7_takeIf, 3, (Option.some Jvm.ClassFile.FieldType.boolean), [])
theorem kX7_takeIf : xMk iX7_takeIf 1 := ⟨q961, q126, ⟨by decide +kernel, by decide +kernel⟩, by decide +kernel, by decide, rfl⟩
def iX7_point : xI := (yX7_point, 12, cX7_point, 4, (Option.none : Option Jvm.ClassFile.FieldType), [])
theorem kX7_point : xMk iX7_point 0 := ⟨q972, q126, ⟨by decide +kernel, by decide +kernel⟩, by decide +kernel, by decide, rfl⟩
def iX7_name : xI := (yX7_name, 12, cX7_name, 4, (Option.some (Jvm.ClassFile.FieldType.object "java/lang/String")), [])
theorem kX7_name : xMk iX7_name 2 := ⟨q976, q126, ⟨by decide +kernel, by decide +kernel⟩, by decide +kernel, by decide, rfl⟩
def iX7_take : xI := (yX7_take, 12, cX7_take, 3, (Option.some (Jvm.ClassFile.FieldType.object "GridTable$Token")), [])
theorem kX7_take : xMk iX7_take 1 := ⟨q981, q126, ⟨by decide +kernel, by decide +kernel⟩, by decide +kernel, by decide, rfl⟩
def iX7_wrong : xI := (yX7_wrong, 12, cX7_wrong, 1, (Option.some (Jvm.ClassFile.FieldType.object "GridTable$Fault")), [])
theorem kX7_wrong : xMk iX7_wrong 0 := ⟨q985, q126, ⟨by decide +kernel, by decide +kernel⟩, by decide +kernel, by decide, rfl⟩
def iX7_check : xI := (yX7_check, 12, cX7_check, 4, (Option.none : Option Jvm.ClassFile.FieldType), [])
theorem kX7_check : xMk iX7_check 3 := ⟨q1499, q126, ⟨by decide +kernel, by decide +kernel⟩, by decide +kernel, by decide, rfl⟩
def iX7_take_2 : xI := (yX7_take_2, 12, cX7_take_2, 2, (Option.none : Option Jvm.ClassFile.FieldType), [])
theorem kX7_take_2 : xMk iX7_take_2 1 := ⟨q1508, q126, ⟨by decide +kernel, by decide +kernel⟩, by decide +kernel, by decide, rfl⟩
def iX7_sum : xI := (yX7_sum, 12, cX7_sum, 3, (Option.some (Jvm.ClassFile.FieldType.object "GridTable$Sum")), [])
theorem kX7_sum : xMk iX7_sum 0 := ⟨q1512, q126, ⟨by decide +kernel, by decide +kernel⟩, by decide +kernel, by decide, rfl⟩
def iX7_product : xI := (yX7_product, 12, cX7_product, 3, (Option.some (Jvm.ClassFile.FieldType.object "GridTable$Sum")), [])
theorem kX7_product : xMk iX7_product 0 := ⟨q1516, q126, ⟨by decide +kernel, by decide +kernel⟩, by decide +kernel, by decide, rfl⟩
def iX7_value : xI := (yX7_value, 12, cX7_value, 5, (Option.some (Jvm.ClassFile.FieldType.object "GridTable$Sum")), [])
theorem kX7_value : xMk iX7_value 0 := ⟨q1520, q126, ⟨by decide +kernel, by decide +kernel⟩, by decide +kernel, by decide, rfl⟩
def iX7_known : xI := (yX7_known, 12, cX7_known, 3, (Option.some Jvm.ClassFile.FieldType.int), [])
theorem kX7_known : xMk iX7_known 1 := ⟨q1555, q126, ⟨by decide +kernel, by decide +kernel⟩, by decide +kernel, by decide, rfl⟩
def iX7_which : xI := (yX7_which, 12, cX7_which, 2, (Option.some Jvm.ClassFile.FieldType.int), [])
theorem kX7_which : xMk iX7_which 1 := ⟨q1620, q126, ⟨by decide +kernel, by decide +kernel⟩, by decide +kernel, by decide, rfl⟩
def iX7_deeper : xI := (yX7_deeper, 12, cX7_deeper, 2, (Option.none : Option Jvm.ClassFile.FieldType), [])
theorem kX7_deeper : xMk iX7_deeper 1 := ⟨q1640, q126, ⟨by decide +kernel, by decide +kernel⟩, by decide +kernel, by decide, rfl⟩
def iX7_close : xI := (yX7_close, 12, cX7_close, 2, (Option.none : Option Jvm.ClassFile.FieldType), [])
theorem kX7_close : xMk iX7_close 1 := ⟨q1677, q126, ⟨by decide +kernel, by decide +kernel⟩, by decide +kernel, by decide, rfl⟩
def iX7_put : xI := (yX7_put, 12, cX7_put, 3, (Option.none : Option Jvm.ClassFile.FieldType), [])
theorem kX7_put : xMk iX7_put 2 := ⟨q1804, q126, ⟨by decide +kernel, by decide +kernel⟩, by decide +kernel, by decide, rfl⟩
def iX7_shape : xI := (yX7_shape, 12, cX7_shape, 3, (Option.none : Option Jvm.ClassFile.FieldType), [])
theorem kX7_shape : xMk iX7_shape 0 := ⟨q1949, q126, ⟨by decide +kernel, by decide +kernel⟩, by decide +kernel, by decide, rfl⟩
def iX7_corner : xI := (yX7_corner, 12, cX7_corner, 4, (Option.none : Option Jvm.ClassFile.FieldType), [])
theorem kX7_corner : xMk iX7_corner 1 := ⟨q1956, q126, ⟨by decide +kernel, by decide +kernel⟩, by decide +kernel, by decide, rfl⟩
def iX7_step : xI := (yX7_step, 12, cX7_step, 7, (Option.none : Option Jvm.ClassFile.FieldType), [])
theorem kX7_step : xMk iX7_step 1 := ⟨q2019, q126, ⟨by decide +kernel, by decide +kernel⟩, by decide +kernel, by decide, rfl⟩
def iX7_test : xI := (yX7_test, 12, cX7_test, 2, (Option.some (Jvm.ClassFile.FieldType.object "GridTable$Test")), [])
theorem kX7_test : xMk iX7_test 0 := ⟨q2044, q126, ⟨by decide +kernel, by decide +kernel⟩, by decide +kernel, by decide, rfl⟩
def iX7_both : xI := (yX7_both, 12, cX7_both, 2, (Option.some (Jvm.ClassFile.FieldType.object "GridTable$Test")), [])
theorem kX7_both : xMk iX7_both 0 := ⟨q2064, q126, ⟨by decide +kernel, by decide +kernel⟩, by decide +kernel, by decide, rfl⟩
def iX7_single : xI := (yX7_single, 12, cX7_single, 3, (Option.some (Jvm.ClassFile.FieldType.object "GridTable$Test")), [])
theorem kX7_single : xMk iX7_single 0 := ⟨q2068, q126, ⟨by decide +kernel, by decide +kernel⟩, by decide +kernel, by decide, rfl⟩
def iX8_init : xI := (yX8_init, 13, cX8_init, 2, (Option.none : Option Jvm.ClassFile.FieldType), [])
theorem kX8_init : xMk iX8_init 1 := ⟨q310, q127, ⟨by decide +kernel, by decide +kernel⟩, by decide +kernel, by decide, rfl⟩
def iX8_all : xI := (yX8_all, 13, cX8_all, 3, (Option.some (Jvm.ClassFile.FieldType.object "java/util/List")), [])
theorem kX8_all : xMk iX8_all 0 := ⟨q324, q127, ⟨by decide +kernel, by decide +kernel⟩, by decide +kernel, by decide, rfl⟩
def iX8_isBlank : xI := (yX8_isBlank, 13, cX8_isBlank, 1, (Option.some Jvm.ClassFile.FieldType.boolean), [])
theorem kX8_isBlank : xMk iX8_isBlank 1 := ⟨q331, q127, ⟨by decide +kernel, by decide +kernel⟩, by decide +kernel, by decide, rfl⟩
def iX8_next : xI := (yX8_next, 13, cX8_next, 5, (Option.some (Jvm.ClassFile.FieldType.object "GridTable$Token")), [])
theorem kX8_next : xMk iX8_next 1 := ⟨q335, q127, ⟨by decide +kernel, by decide +kernel⟩, by decide +kernel, by decide, rfl⟩
def iX8_isLetter : xI := (yX8_isLetter, 13, cX8_isLetter, 1, (Option.some Jvm.ClassFile.FieldType.boolean), [])
theorem kX8_isLetter : xMk iX8_isLetter 1 := ⟨q366, q127, ⟨by decide +kernel, by decide +kernel⟩, by decide +kernel, by decide, rfl⟩
def iX8_isDigit : xI := (yX8_isDigit, 13, cX8_isDigit, 1, (Option.some Jvm.ClassFile.FieldType.boolean), [])
theorem kX8_isDigit : xMk iX8_isDigit 1 := ⟨q369, q127, ⟨by decide +kernel, by decide +kernel⟩, by decide +kernel, by decide, rfl⟩
def iX8_isKey : xI := (yX8_isKey, 13, cX8_isKey, 5, (Option.some Jvm.ClassFile.FieldType.boolean), [])
theorem kX8_isKey : xMk iX8_isKey 1 := ⟨q710, q127, ⟨by decide +kernel, by decide +kernel⟩, by decide +kernel, by decide, rfl⟩
def iX9_init : xI := (yX9_init, 28, cX9_init, 4, (Option.none : Option Jvm.ClassFile.FieldType), [])
theorem kX9_init : xMk iX9_init 3 := ⟨q347, q128, ⟨by decide +kernel, by decide +kernel⟩, by decide +kernel, by decide, rfl⟩
def iX9_is : xI := (yX9_is, 28, cX9_is, 2, (Option.some Jvm.ClassFile.FieldType.boolean), [])
theorem kX9_is : xMk iX9_is 1 := ⟨q965, q128, ⟨by decide +kernel, by decide +kernel⟩, by decide +kernel, by decide, rfl⟩
def iX9_number : xI := (yX9_number, 28, cX9_number, 3, (Option.some Jvm.ClassFile.FieldType.int), [])
theorem kX9_number : xMk iX9_number 0 := ⟨q1527, q128, ⟨by decide +kernel, by decide +kernel⟩, by decide +kernel, by decide, rfl⟩
def iJ8_hashCode : xI := (yJ8_hashCode, 40, cJ8_hashCode, 2, (Option.some Jvm.ClassFile.FieldType.int), [])
theorem kJ8_hashCode : xMk iJ8_hashCode 0 := ⟨q1033, q129, ⟨by decide +kernel, by decide +kernel⟩, by decide +kernel, by decide, rfl⟩
def iJ8_equals : xI := (yJ8_equals, 40, cJ8_equals, 2, (Option.some Jvm.ClassFile.FieldType.boolean), [])
theorem kJ8_equals : xMk iJ8_equals 1 := ⟨q1148, q129, ⟨by decide +kernel, by decide +kernel⟩, by decide +kernel, by decide, rfl⟩
def iJ8_compareTo : xI := (yJ8_compareTo, 40, cJ8_compareTo, 2, (Option.some Jvm.ClassFile.FieldType.int), [])
theorem kJ8_compareTo : xMk iJ8_compareTo 1 := ⟨q1229, q129, ⟨by decide +kernel, by decide +kernel⟩, by decide +kernel, by decide, rfl⟩
def iJ8_compareTo_2 : xI := (yJ8_compareTo_2, 40, cJ8_compareTo_2, 4, (Option.some Jvm.ClassFile.FieldType.int), [])
theorem kJ8_compareTo_2 : xMk iJ8_compareTo_2 1 := ⟨q1248, q129, ⟨by decide +kernel, by decide +kernel⟩, by decide +kernel, by decide, rfl⟩
def iJ8_getDeclaringClass : xI := (yJ8_getDeclaringClass, 40, cJ8_getDeclaringClass, 3, (Option.some (Jvm.ClassFile.FieldType.object "java/lang/Class")), [])
theorem kJ8_getDeclaringClass : xMk iJ8_getDeclaringClass 0 := ⟨q1267, q129, ⟨by decide +kernel, by decide +kernel⟩, by decide +kernel, by decide, rfl⟩
def iJ8_ordinal : xI := (yJ8_ordinal, 40, cJ8_ordinal, 1, (Option.some Jvm.ClassFile.FieldType.int), [])
theorem kJ8_ordinal : xMk iJ8_ordinal 0 := ⟨q2492, q129, ⟨by decide +kernel, by decide +kernel⟩, by decide +kernel, by decide, rfl⟩
def iJ9_init : xI := (yJ9_init, 37, cJ9_init, 2, (Option.none : Option Jvm.ClassFile.FieldType), [])
theorem kJ9_init : xMk iJ9_init 1 := ⟨q381, q131, ⟨by decide +kernel, by decide +kernel⟩, by decide +kernel, by decide, rfl⟩
def iJ9_append : xI := (yJ9_append, 37, cJ9_append, 2, (Option.some (Jvm.ClassFile.FieldType.object "java/lang/AbstractStringBuilder")), [])
theorem kJ9_append : xMk iJ9_append 1 := ⟨q412, q131, ⟨by decide +kernel, by decide +kernel⟩, by decide +kernel, by decide, rfl⟩
def iJ9_ensureCapacityInternal : xI := (yJ9_ensureCapacityInternal, 37, cJ9_ensureCapacityInternal, 3, (Option.none : Option Jvm.ClassFile.FieldType), [])
theorem kJ9_ensureCapacityInternal : xMk iJ9_ensureCapacityInternal 1 := ⟨q416, q131, ⟨by decide +kernel, by decide +kernel⟩, by decide +kernel, by decide, rfl⟩
def iJ9_newCapacity : xI := (yJ9_newCapacity, 37, cJ9_newCapacity, 6, (Option.some Jvm.ClassFile.FieldType.int), [])
theorem kJ9_newCapacity : xMk iJ9_newCapacity 1 := ⟨q420, q131, ⟨by decide +kernel, by decide +kernel⟩, by decide +kernel, by decide, rfl⟩
def iJ9_isLatin1 : xI := (yJ9_isLatin1, 37, cJ9_isLatin1, 1, (Option.some Jvm.ClassFile.FieldType.boolean), [])
theorem kJ9_isLatin1 : xMk iJ9_isLatin1 0 := ⟨q452, q131, ⟨by decide +kernel, by decide +kernel⟩, by decide +kernel, by decide, rfl⟩
def iJ9_inflate : xI := (yJ9_inflate, 37, cJ9_inflate, 2, (Option.none : Option Jvm.ClassFile.FieldType), [])
theorem kJ9_inflate : xMk iJ9_inflate 0 := ⟨q459, q131, ⟨by decide +kernel, by decide +kernel⟩, by decide +kernel, by decide, rfl⟩
def iJ9_getValue : xI := (yJ9_getValue, 37, cJ9_getValue, 1, (Option.some (Jvm.ClassFile.FieldType.array Jvm.ClassFile.FieldType.byte)), [])
theorem kJ9_getValue : xMk iJ9_getValue 0 := ⟨q518, q131, ⟨by decide +kernel, by decide +kernel⟩, by decide +kernel, by decide, rfl⟩
def iJ9_length : xI := (yJ9_length, 37, cJ9_length, 1, (Option.some Jvm.ClassFile.FieldType.int), [])
theorem kJ9_length : xMk iJ9_length 0 := ⟨q526, q131, ⟨by decide +kernel, by decide +kernel⟩, by decide +kernel, by decide, rfl⟩
def iJ9_append_2 : xI := (yJ9_append_2, 37, cJ9_append_2, 4, (Option.some (Jvm.ClassFile.FieldType.object "java/lang/AbstractStringBuilder")), [])
theorem kJ9_append_2 : xMk iJ9_append_2 1 := ⟨q588, q131, ⟨by decide +kernel, by decide +kernel⟩, by decide +kernel, by decide, rfl⟩
def iJ9_append_3 : xI := (yJ9_append_3, 37, cJ9_append_3, 3, (Option.some (Jvm.ClassFile.FieldType.object "java/lang/AbstractStringBuilder")), [])
theorem kJ9_append_3 : xMk iJ9_append_3 1 := ⟨q623, q131, ⟨by decide +kernel, by decide +kernel⟩, by decide +kernel, by decide, rfl⟩
def iJ9_appendNull : xI := (yJ9_appendNull, 37, cJ9_appendNull, 3, (Option.some (Jvm.ClassFile.FieldType.object "java/lang/AbstractStringBuilder")), [])
theorem kJ9_appendNull : xMk iJ9_appendNull 0 := ⟨q627, q131, ⟨by decide +kernel, by decide +kernel⟩, by decide +kernel, by decide, rfl⟩
def iJ9_putStringAt : xI := (yJ9_putStringAt, 37, cJ9_putStringAt, 3, (Option.none : Option Jvm.ClassFile.FieldType), [])
theorem kJ9_putStringAt : xMk iJ9_putStringAt 2 := ⟨q643, q131, ⟨by decide +kernel, by decide +kernel⟩, by decide +kernel, by decide, rfl⟩
def iJ9_inflateIfNeededFor : xI := (yJ9_inflateIfNeededFor, 37, cJ9_inflateIfNeededFor, 2, (Option.none : Option Jvm.ClassFile.FieldType), [])
theorem kJ9_inflateIfNeededFor : xMk iJ9_inflateIfNeededFor 1 := ⟨q647, q131, ⟨by decide +kernel, by decide +kernel⟩, by decide +kernel, by decide, rfl⟩
def iJ9_compareTo : xI := (yJ9_compareTo, 37, cJ9_compareTo, 6, (Option.some Jvm.ClassFile.FieldType.int), [])
theorem kJ9_compareTo : xMk iJ9_compareTo 1 := ⟨q1477, q131, ⟨by decide +kernel, by decide +kernel⟩, by decide +kernel, by decide, rfl⟩
def iJ10_init : xI := (yJ10_init, 52, cJ10_init, 1, (Option.none : Option Jvm.ClassFile.FieldType), [])
theorem kJ10_init : xMk iJ10_init 0 := ⟨q378, q132, ⟨by decide +kernel, by decide +kernel⟩, by decide +kernel, by decide, rfl⟩
def iJ10_append : xI := (yJ10_append, 52, cJ10_append, 2, (Option.some (Jvm.ClassFile.FieldType.object "java/lang/StringBuilder")), [])
theorem kJ10_append : xMk iJ10_append 1 := ⟨q409, q132, ⟨by decide +kernel, by decide +kernel⟩, by decide +kernel, by decide, rfl⟩
def iJ10_toString : xI := (yJ10_toString, 52, cJ10_toString, 1, (Option.some (Jvm.ClassFile.FieldType.object "java/lang/String")), [])
theorem kJ10_toString : xMk iJ10_toString 0 := ⟨q504, q132, ⟨by decide +kernel, by decide +kernel⟩, by decide +kernel, by decide, rfl⟩
def iJ10_length : xI := (yJ10_length, 52, cJ10_length, 1, (Option.some Jvm.ClassFile.FieldType.int), [])
theorem kJ10_length : xMk iJ10_length 0 := ⟨q524, q132, ⟨by decide +kernel, by decide +kernel⟩, by decide +kernel, by decide, rfl⟩
def iJ10_append_2 : xI := (yJ10_append_2, 52, cJ10_append_2, 2, (Option.some (Jvm.ClassFile.FieldType.object "java/lang/StringBuilder")), [])
theorem kJ10_append_2 : xMk iJ10_append_2 1 := ⟨q585, q132, ⟨by decide +kernel, by decide +kernel⟩, by decide +kernel, by decide, rfl⟩
def iJ10_append_3 : xI := (yJ10_append_3, 52, cJ10_append_3, 2, (Option.some (Jvm.ClassFile.FieldType.object "java/lang/StringBuilder")), [])
theorem kJ10_append_3 : xMk iJ10_append_3 1 := ⟨q620, q132, ⟨by decide +kernel, by decide +kernel⟩, by decide +kernel, by decide, rfl⟩
def iJ10_compareTo : xI := (yJ10_compareTo, 52, cJ10_compareTo, 2, (Option.some Jvm.ClassFile.FieldType.int), [])
theorem kJ10_compareTo : xMk iJ10_compareTo 1 := ⟨q1469, q132, ⟨by decide +kernel, by decide +kernel⟩, by decide +kernel, by decide, rfl⟩
def iJ10_compareTo_2 : xI := (yJ10_compareTo_2, 52, cJ10_compareTo_2, 2, (Option.some Jvm.ClassFile.FieldType.int), [])
theorem kJ10_compareTo_2 : xMk iJ10_compareTo_2 1 := ⟨q1474, q132, ⟨by decide +kernel, by decide +kernel⟩, by decide +kernel, by decide, rfl⟩
def iJ11_checkBoundsOffCount : xI := (yJ11_checkBoundsOffCount, 51, cJ11_checkBoundsOffCount, 3, (Option.some Jvm.ClassFile.FieldType.int), [])
theorem kJ11_checkBoundsOffCount : xMk iJ11_checkBoundsOffCount 3 := ⟨q474, q133, ⟨by decide +kernel, by decide +kernel⟩, by decide +kernel, by decide, rfl⟩
def iJ11_checkIndex : xI := (yJ11_checkIndex, 51, cJ11_checkIndex, 2, (Option.none : Option Jvm.ClassFile.FieldType), [])
theorem kJ11_checkIndex : xMk iJ11_checkIndex 2 := ⟨q497, q133, ⟨by decide +kernel, by decide +kernel⟩, by decide +kernel, by decide, rfl⟩
def iJ11_init : xI := (yJ11_init, 51, cJ11_init, 2, (Option.none : Option Jvm.ClassFile.FieldType), [])
theorem kJ11_init : xMk iJ11_init 1 := ⟨q509, q133, ⟨by decide +kernel, by decide +kernel⟩, by decide +kernel, by decide, rfl⟩
def iJ11_init_2 : xI := (yJ11_init_2, 51, cJ11_init_2, 5, (Option.none : Option Jvm.ClassFile.FieldType), [])
theorem kJ11_init_2 : xMk iJ11_init_2 2 := ⟨q512, q133, ⟨by decide +kernel, by decide +kernel⟩, by decide +kernel, by decide, rfl⟩
def iJ11_checkBoundsBeginEnd : xI := (yJ11_checkBoundsBeginEnd, 51, cJ11_checkBoundsBeginEnd, 3, (Option.none : Option Jvm.ClassFile.FieldType), [])
theorem kJ11_checkBoundsBeginEnd : xMk iJ11_checkBoundsBeginEnd 3 := ⟨q607, q133, ⟨by decide +kernel, by decide +kernel⟩, by decide +kernel, by decide, rfl⟩
def iJ11_length : xI := (yJ11_length, 51, cJ11_length, 1, (Option.some Jvm.ClassFile.FieldType.int), [])
theorem kJ11_length : xMk iJ11_length 0 := ⟨q634, q133, ⟨by decide +kernel, by decide +kernel⟩, by decide +kernel, by decide, rfl⟩
def iJ11_coder : xI := (yJ11_coder, 51, cJ11_coder, 1, (Option.some Jvm.ClassFile.FieldType.byte), [])
theorem kJ11_coder : xMk iJ11_coder 0 := ⟨q638, q133, ⟨by decide +kernel, by decide +kernel⟩, by decide +kernel, by decide, rfl⟩
def iJ11_getBytes : xI := (yJ11_getBytes, 51, cJ11_getBytes, 4, (Option.none : Option Jvm.ClassFile.FieldType), [])
theorem kJ11_getBytes : xMk iJ11_getBytes 3 := ⟨q652, q133, ⟨by decide +kernel, by decide +kernel⟩, by decide +kernel, by decide, rfl⟩
def iJ11_equals : xI := (yJ11_equals, 51, cJ11_equals, 3, (Option.some Jvm.ClassFile.FieldType.boolean), [])
theorem kJ11_equals : xMk iJ11_equals 1 := ⟨q716, q133, ⟨by decide +kernel, by decide +kernel⟩, by decide +kernel, by decide, rfl⟩
def iJ11_indexOf : xI := (yJ11_indexOf, 51, cJ11_indexOf, 2, (Option.some Jvm.ClassFile.FieldType.int), [])
theorem kJ11_indexOf : xMk iJ11_indexOf 1 := ⟨q731, q133, ⟨by decide +kernel, by decide +kernel⟩, by decide +kernel, by decide, rfl⟩
def iJ11_indexOf_2 : xI := (yJ11_indexOf_2, 51, cJ11_indexOf_2, 3, (Option.some Jvm.ClassFile.FieldType.int), [])
theorem kJ11_indexOf_2 : xMk iJ11_indexOf_2 2 := ⟨q735, q133, ⟨by decide +kernel, by decide +kernel⟩, by decide +kernel, by decide, rfl⟩
def iJ11_isLatin1 : xI := (yJ11_isLatin1, 51, cJ11_isLatin1, 1, (Option.some Jvm.ClassFile.FieldType.boolean), [])
theorem kJ11_isLatin1 : xMk iJ11_isLatin1 0 := ⟨q739, q133, ⟨by decide +kernel, by decide +kernel⟩, by decide +kernel, by decide, rfl⟩
def iJ11_hashCode : xI := (yJ11_hashCode, 51, cJ11_hashCode, 2, (Option.some Jvm.ClassFile.FieldType.int), [])
theorem kJ11_hashCode : xMk iJ11_hashCode 0 := ⟨q1080, q133, ⟨by decide +kernel, by decide +kernel⟩, by decide +kernel, by decide, rfl⟩
def iJ11_compareTo : xI := (yJ11_compareTo, 51, cJ11_compareTo, 2, (Option.some Jvm.ClassFile.FieldType.int), [])
theorem kJ11_compareTo : xMk iJ11_compareTo 1 := ⟨q1325, q133, ⟨by decide +kernel, by decide +kernel⟩, by decide +kernel, by decide, rfl⟩
def iJ11_compareTo_2 : xI := (yJ11_compareTo_2, 51, cJ11_compareTo_2, 5, (Option.some Jvm.ClassFile.FieldType.int), [])
theorem kJ11_compareTo_2 : xMk iJ11_compareTo_2 1 := ⟨q1329, q133, ⟨by decide +kernel, by decide +kernel⟩, by decide +kernel, by decide, rfl⟩
def iJ11_checkOffset : xI := (yJ11_checkOffset, 51, cJ11_checkOffset, 2, (Option.none : Option Jvm.ClassFile.FieldType), [])
theorem kJ11_checkOffset : xMk iJ11_checkOffset 2 := ⟨q1487, q133, ⟨by decide +kernel, by decide +kernel⟩, by decide +kernel, by decide, rfl⟩
def iJ11_charAt : xI := (yJ11_charAt, 51, cJ11_charAt, 2, (Option.some Jvm.ClassFile.FieldType.char), [])
theorem kJ11_charAt : xMk iJ11_charAt 1 := ⟨q1532, q133, ⟨by decide +kernel, by decide +kernel⟩, by decide +kernel, by decide, rfl⟩
def iJ12_newBytesFor : xI := (yJ12_newBytesFor, 54, cJ12_newBytesFor, 1, (Option.some (Jvm.ClassFile.FieldType.array Jvm.ClassFile.FieldType.byte)), [])
theorem kJ12_newBytesFor : xMk iJ12_newBytesFor 1 := ⟨q387, q134, ⟨by decide +kernel, by decide +kernel⟩, by decide +kernel, by decide, rfl⟩
def iJ12_newBytesLength : xI := (yJ12_newBytesLength, 54, cJ12_newBytesLength, 1, (Option.some Jvm.ClassFile.FieldType.int), [])
theorem kJ12_newBytesLength : xMk iJ12_newBytesLength 1 := ⟨q390, q134, ⟨by decide +kernel, by decide +kernel⟩, by decide +kernel, by decide, rfl⟩
def iJ12_inflate : xI := (yJ12_inflate, 54, cJ12_inflate, 6, (Option.none : Option Jvm.ClassFile.FieldType), [])
theorem kJ12_inflate : xMk iJ12_inflate 5 := ⟨q465, q134, ⟨by decide +kernel, by decide +kernel⟩, by decide +kernel, by decide, rfl⟩
def iJ12_checkBoundsOffCount : xI := (yJ12_checkBoundsOffCount, 54, cJ12_checkBoundsOffCount, 3, (Option.none : Option Jvm.ClassFile.FieldType), [])
theorem kJ12_checkBoundsOffCount : xMk iJ12_checkBoundsOffCount 3 := ⟨q468, q134, ⟨by decide +kernel, by decide +kernel⟩, by decide +kernel, by decide, rfl⟩
def iJ12_length : xI := (yJ12_length, 54, cJ12_length, 1, (Option.some Jvm.ClassFile.FieldType.int), [])
theorem kJ12_length : xMk iJ12_length 1 := ⟨q471, q134, ⟨by decide +kernel, by decide +kernel⟩, by decide +kernel, by decide, rfl⟩
def iJ12_putChar : xI := (yJ12_putChar, 54, cJ12_putChar, 3, (Option.none : Option Jvm.ClassFile.FieldType), [])
theorem kJ12_putChar : xMk iJ12_putChar 3 := ⟨q482, q134, ⟨by decide +kernel, by decide +kernel⟩, by decide +kernel, by decide, rfl⟩
def iJ12_putCharSB : xI := (yJ12_putCharSB, 54, cJ12_putCharSB, 3, (Option.none : Option Jvm.ClassFile.FieldType), [])
theorem kJ12_putCharSB : xMk iJ12_putCharSB 3 := ⟨q491, q134, ⟨by decide +kernel, by decide +kernel⟩, by decide +kernel, by decide, rfl⟩
def iJ12_checkIndex : xI := (yJ12_checkIndex, 54, cJ12_checkIndex, 2, (Option.none : Option Jvm.ClassFile.FieldType), [])
theorem kJ12_checkIndex : xMk iJ12_checkIndex 2 := ⟨q494, q134, ⟨by decide +kernel, by decide +kernel⟩, by decide +kernel, by decide, rfl⟩
def iJ12_getChars : xI := (yJ12_getChars, 54, cJ12_getChars, 5, (Option.some Jvm.ClassFile.FieldType.int), [])
theorem kJ12_getChars : xMk iJ12_getChars 4 := ⟨q601, q134, ⟨by decide +kernel, by decide +kernel⟩, by decide +kernel, by decide, rfl⟩
def iJ12_checkBoundsBeginEnd : xI := (yJ12_checkBoundsBeginEnd, 54, cJ12_checkBoundsBeginEnd, 3, (Option.none : Option Jvm.ClassFile.FieldType), [])
theorem kJ12_checkBoundsBeginEnd : xMk iJ12_checkBoundsBeginEnd 3 := ⟨q604, q134, ⟨by decide +kernel, by decide +kernel⟩, by decide +kernel, by decide, rfl⟩
def iJ12_getChars_2 : xI := (yJ12_getChars_2, 54, cJ12_getChars_2, 7, (Option.some Jvm.ClassFile.FieldType.int), [])
theorem kJ12_getChars_2 : xMk iJ12_getChars_2 3 := ⟨q613, q134, ⟨by decide +kernel, by decide +kernel⟩, by decide +kernel, by decide, rfl⟩
def iJ12_putCharsAt : xI := (yJ12_putCharsAt, 54, cJ12_putCharsAt, 7, (Option.some Jvm.ClassFile.FieldType.int), [])
theorem kJ12_putCharsAt : xMk iJ12_putCharsAt 6 := ⟨q630, q134, ⟨by decide +kernel, by decide +kernel⟩, by decide +kernel, by decide, rfl⟩
def iJ12_compress : xI := (yJ12_compress, 54, cJ12_compress, 6, (Option.some (Jvm.ClassFile.FieldType.array Jvm.ClassFile.FieldType.byte)), [])
theorem kJ12_compress : xMk iJ12_compress 3 := ⟨q683, q134, ⟨by decide +kernel, by decide +kernel⟩, by decide +kernel, by decide, rfl⟩
def iJ12_compress_2 : xI := (yJ12_compress_2, 54, cJ12_compress_2, 7, (Option.some Jvm.ClassFile.FieldType.int), [])
theorem kJ12_compress_2 : xMk iJ12_compress_2 5 := ⟨q686, q134, ⟨by decide +kernel, by decide +kernel⟩, by decide +kernel, by decide, rfl⟩
def iJ12_getChar : xI := (yJ12_getChar, 54, cJ12_getChar, 2, (Option.some Jvm.ClassFile.FieldType.char), [])
theorem kJ12_getChar : xMk iJ12_getChar 2 := ⟨q689, q134, ⟨by decide +kernel, by decide +kernel⟩, by decide +kernel, by decide, rfl⟩
def iJ12_coderFromArrayLen : xI := (yJ12_coderFromArrayLen, 54, cJ12_coderFromArrayLen, 2, (Option.some Jvm.ClassFile.FieldType.byte), [])
theorem kJ12_coderFromArrayLen : xMk iJ12_coderFromArrayLen 2 := ⟨q693, q134, ⟨by decide +kernel, by decide +kernel⟩, by decide +kernel, by decide, rfl⟩
def iJ12_indexOf : xI := (yJ12_indexOf, 54, cJ12_indexOf, 4, (Option.some Jvm.ClassFile.FieldType.int), [])
theorem kJ12_indexOf : xMk iJ12_indexOf 4 := ⟨q754, q134, ⟨by decide +kernel, by decide +kernel⟩, by decide +kernel, by decide, rfl⟩
def iJ12_indexOfChar : xI := (yJ12_indexOfChar, 54, cJ12_indexOfChar, 4, (Option.some Jvm.ClassFile.FieldType.int), [])
theorem kJ12_indexOfChar : xMk iJ12_indexOfChar 4 := ⟨q760, q134, ⟨by decide +kernel, by decide +kernel⟩, by decide +kernel, by decide, rfl⟩
def iJ12_indexOfCharUnsafe : xI := (yJ12_indexOfCharUnsafe, 54, cJ12_indexOfCharUnsafe, 5, (Option.some Jvm.ClassFile.FieldType.int), [])
theorem kJ12_indexOfCharUnsafe : xMk iJ12_indexOfCharUnsafe 4 := ⟨q763, q134, ⟨by decide +kernel, by decide +kernel⟩, by decide +kernel, by decide, rfl⟩
def iJ12_indexOfSupplementary : xI := (yJ12_indexOfSupplementary, 54, cJ12_indexOfSupplementary, 7, (Option.some Jvm.ClassFile.FieldType.int), [])
theorem kJ12_indexOfSupplementary : xMk iJ12_indexOfSupplementary 4 := ⟨q766, q134, ⟨by decide +kernel, by decide +kernel⟩, by decide +kernel, by decide, rfl⟩
def iJ12_hashCode : xI := (yJ12_hashCode, 54, cJ12_hashCode, 1, (Option.some Jvm.ClassFile.FieldType.int), [])
theorem kJ12_hashCode : xMk iJ12_hashCode 1 := ⟨q1132, q134, ⟨by decide +kernel, by decide +kernel⟩, by decide +kernel, by decide, rfl⟩
def iJ12_compareTo : xI := (yJ12_compareTo, 54, cJ12_compareTo, 4, (Option.some Jvm.ClassFile.FieldType.int), [])
theorem kJ12_compareTo : xMk iJ12_compareTo 2 := ⟨q1445, q134, ⟨by decide +kernel, by decide +kernel⟩, by decide +kernel, by decide, rfl⟩
def iJ12_compareValues : xI := (yJ12_compareValues, 54, cJ12_compareValues, 8, (Option.some Jvm.ClassFile.FieldType.int), [])
theorem kJ12_compareValues : xMk iJ12_compareValues 4 := ⟨q1448, q134, ⟨by decide +kernel, by decide +kernel⟩, by decide +kernel, by decide, rfl⟩
def iJ12_compareToLatin1 : xI := (yJ12_compareToLatin1, 54, cJ12_compareToLatin1, 2, (Option.some Jvm.ClassFile.FieldType.int), [])
theorem kJ12_compareToLatin1 : xMk iJ12_compareToLatin1 2 := ⟨q1462, q134, ⟨by decide +kernel, by decide +kernel⟩, by decide +kernel, by decide, rfl⟩
def iJ12_compareTo_2 : xI := (yJ12_compareTo_2, 54, cJ12_compareTo_2, 4, (Option.some Jvm.ClassFile.FieldType.int), [])
theorem kJ12_compareTo_2 : xMk iJ12_compareTo_2 4 := ⟨q1481, q134, ⟨by decide +kernel, by decide +kernel⟩, by decide +kernel, by decide, rfl⟩
def iJ12_checkOffset : xI := (yJ12_checkOffset, 54, cJ12_checkOffset, 2, (Option.none : Option Jvm.ClassFile.FieldType), [])
theorem kJ12_checkOffset : xMk iJ12_checkOffset 2 := ⟨q1484, q134, ⟨by decide +kernel, by decide +kernel⟩, by decide +kernel, by decide, rfl⟩
def iJ12_compareToLatin1_2 : xI := (yJ12_compareToLatin1_2, 54, cJ12_compareToLatin1_2, 4, (Option.some Jvm.ClassFile.FieldType.int), [])
theorem kJ12_compareToLatin1_2 : xMk iJ12_compareToLatin1_2 4 := ⟨q1494, q134, ⟨by decide +kernel, by decide +kernel⟩, by decide +kernel, by decide, rfl⟩
def iJ12_charAt : xI := (yJ12_charAt, 54, cJ12_charAt, 2, (Option.some Jvm.ClassFile.FieldType.char), [])
theorem kJ12_charAt : xMk iJ12_charAt 2 := ⟨q1539, q134, ⟨by decide +kernel, by decide +kernel⟩, by decide +kernel, by decide, rfl⟩
def iJ13_newLength : xI := (yJ13_newLength, 70, cJ13_newLength, 4, (Option.some Jvm.ClassFile.FieldType.int), [])
theorem kJ13_newLength : xMk iJ13_newLength 3 := ⟨q423, q135, ⟨by decide +kernel, by decide +kernel⟩, by decide +kernel, by decide, rfl⟩
def iJ13_hugeLength : xI := (yJ13_hugeLength, 70, cJ13_hugeLength, 3, (Option.some Jvm.ClassFile.FieldType.int), [])
theorem kJ13_hugeLength : xMk iJ13_hugeLength 2 := ⟨q430, q135, ⟨by decide +kernel, by decide +kernel⟩, by decide +kernel, by decide, rfl⟩
def iJ13_vectorizedHashCode : xI := (yJ13_vectorizedHashCode, 70, cJ13_vectorizedHashCode, 5, (Option.some Jvm.ClassFile.FieldType.int), [])
theorem kJ13_vectorizedHashCode : xMk iJ13_vectorizedHashCode 5 := ⟨q1086, q135, ⟨by decide +kernel, by decide +kernel⟩, by decide +kernel, by decide, rfl⟩
def iJ13_signedHashCode : xI := (yJ13_signedHashCode, 70, cJ13_signedHashCode, 6, (Option.some Jvm.ClassFile.FieldType.int), [])
theorem kJ13_signedHashCode : xMk iJ13_signedHashCode 4 := ⟨q1090, q135, ⟨by decide +kernel, by decide +kernel⟩, by decide +kernel, by decide, rfl⟩
def iJ13_utf16hashCode : xI := (yJ13_utf16hashCode, 70, cJ13_utf16hashCode, 6, (Option.some Jvm.ClassFile.FieldType.int), [])
theorem kJ13_utf16hashCode : xMk iJ13_utf16hashCode 4 := ⟨q1093, q135, ⟨by decide +kernel, by decide +kernel⟩, by decide +kernel, by decide, rfl⟩
def iJ13_hashCode : xI := (yJ13_hashCode, 70, cJ13_hashCode, 6, (Option.some Jvm.ClassFile.FieldType.int), [])
theorem kJ13_hashCode : xMk iJ13_hashCode 4 := ⟨q1110, q135, ⟨by decide +kernel, by decide +kernel⟩, by decide +kernel, by decide, rfl⟩
def iJ13_hashCode_2 : xI := (yJ13_hashCode_2, 70, cJ13_hashCode_2, 6, (Option.some Jvm.ClassFile.FieldType.int), [])
theorem kJ13_hashCode_2 : xMk iJ13_hashCode_2 4 := ⟨q1113, q135, ⟨by decide +kernel, by decide +kernel⟩, by decide +kernel, by decide, rfl⟩
def iJ13_hashCode_3 : xI := (yJ13_hashCode_3, 70, cJ13_hashCode_3, 6, (Option.some Jvm.ClassFile.FieldType.int), [])
theorem kJ13_hashCode_3 : xMk iJ13_hashCode_3 4 := ⟨q1117, q135, ⟨by decide +kernel, by decide +kernel⟩, by decide +kernel, by decide, rfl⟩
def iJ13_hashCode_4 : xI := (yJ13_hashCode_4, 70, cJ13_hashCode_4, 6, (Option.some Jvm.ClassFile.FieldType.int), [])
theorem kJ13_hashCode_4 : xMk iJ13_hashCode_4 4 := ⟨q1121, q135, ⟨by decide +kernel, by decide +kernel⟩, by decide +kernel, by decide, rfl⟩
def iJ13_mismatch : xI := (yJ13_mismatch, 70, cJ13_mismatch, 4, (Option.some Jvm.ClassFile.FieldType.int), [])
theorem kJ13_mismatch : xMk iJ13_mismatch 3 := ⟨q1338, q135, ⟨by decide +kernel, by decide +kernel⟩, by decide +kernel, by decide, rfl⟩
def iJ13_vectorizedMismatch : xI := (yJ13_vectorizedMismatch, 70, cJ13_vectorizedMismatch, 19, (Option.some Jvm.ClassFile.FieldType.int), [])
theorem kJ13_vectorizedMismatch : xMk iJ13_vectorizedMismatch 6 := ⟨q1345, q135, ⟨by decide +kernel, by decide +kernel⟩, by decide +kernel, by decide, rfl⟩
def iJ14_max : xI := (yJ14_max, 47, cJ14_max, 2, (Option.some Jvm.ClassFile.FieldType.int), [])
theorem kJ14_max : xMk iJ14_max 2 := ⟨q426, q136, ⟨by decide +kernel, by decide +kernel⟩, by decide +kernel, by decide, rfl⟩
def iJ14_min : xI := (yJ14_min, 47, cJ14_min, 2, (Option.some Jvm.ClassFile.FieldType.int), [])
theorem kJ14_min : xMk iJ14_min 2 := ⟨q444, q136, ⟨by decide +kernel, by decide +kernel⟩, by decide +kernel, by decide, rfl⟩
def iJ14_abs : xI := (yJ14_abs, 47, cJ14_abs, 1, (Option.some Jvm.ClassFile.FieldType.int), [])
theorem kJ14_abs : xMk iJ14_abs 1 := ⟨q1727, q136, ⟨by decide +kernel, by decide +kernel⟩, by decide +kernel, by decide, rfl⟩
def iJ14_min_2 : xI := (yJ14_min_2, 47, cJ14_min_2, 4, (Option.some Jvm.ClassFile.FieldType.long), [])
theorem kJ14_min_2 : xMk iJ14_min_2 2 := ⟨q1797, q136, ⟨by decide +kernel, by decide +kernel⟩, by decide +kernel, by decide, rfl⟩
def iJ14_max_2 : xI := (yJ14_max_2, 47, cJ14_max_2, 4, (Option.some Jvm.ClassFile.FieldType.long), [])
theorem kJ14_max_2 : xMk iJ14_max_2 2 := ⟨q1800, q136, ⟨by decide +kernel, by decide +kernel⟩, by decide +kernel, by decide, rfl⟩
def iJ15_copyOf : xI := (yJ15_copyOf, 62, cJ15_copyOf, 3, (Option.some (Jvm.ClassFile.FieldType.array Jvm.ClassFile.FieldType.byte)), [])
theorem kJ15_copyOf : xMk iJ15_copyOf 2 := ⟨q434, q137, ⟨by decide +kernel, by decide +kernel⟩, by decide +kernel, by decide, rfl⟩
def iJ15_copyOfRange : xI := (yJ15_copyOfRange, 62, cJ15_copyOfRange, 3, (Option.some (Jvm.ClassFile.FieldType.array Jvm.ClassFile.FieldType.byte)), [])
theorem kJ15_copyOfRange : xMk iJ15_copyOfRange 3 := ⟨q530, q137, ⟨by decide +kernel, by decide +kernel⟩, by decide +kernel, by decide, rfl⟩
def iJ15_copyOfRangeByte : xI := (yJ15_copyOfRangeByte, 62, cJ15_copyOfRangeByte, 5, (Option.some (Jvm.ClassFile.FieldType.array Jvm.ClassFile.FieldType.byte)), [])
theorem kJ15_copyOfRangeByte : xMk iJ15_copyOfRangeByte 3 := ⟨q533, q137, ⟨by decide +kernel, by decide +kernel⟩, by decide +kernel, by decide, rfl⟩
def iJ15_checkLength : xI := (yJ15_checkLength, 62, cJ15_checkLength, 2, (Option.none : Option Jvm.ClassFile.FieldType), [])
theorem kJ15_checkLength : xMk iJ15_checkLength 2 := ⟨q536, q137, ⟨by decide +kernel, by decide +kernel⟩, by decide +kernel, by decide, rfl⟩
def iJ15_copyOf_2 : xI := (yJ15_copyOf_2, 62, cJ15_copyOf_2, 2, (Option.some (Jvm.ClassFile.FieldType.array (Jvm.ClassFile.FieldType.object "java/lang/Object"))), [])
theorem kJ15_copyOf_2 : xMk iJ15_copyOf_2 2 := ⟨q799, q137, ⟨by decide +kernel, by decide +kernel⟩, by decide +kernel, by decide, rfl⟩
def iJ15_copyOf_3 : xI := (yJ15_copyOf_3, 62, cJ15_copyOf_3, 4, (Option.some (Jvm.ClassFile.FieldType.array (Jvm.ClassFile.FieldType.object "java/lang/Object"))), [])
theorem kJ15_copyOf_3 : xMk iJ15_copyOf_3 3 := ⟨q857, q137, ⟨by decide +kernel, by decide +kernel⟩, by decide +kernel, by decide, rfl⟩
def iJ16_canEncode : xI := (yJ16_canEncode, 53, cJ16_canEncode, 1, (Option.some Jvm.ClassFile.FieldType.boolean), [])
theorem kJ16_canEncode : xMk iJ16_canEncode 1 := ⟨q455, q139, ⟨by decide +kernel, by decide +kernel⟩, by decide +kernel, by decide, rfl⟩
def iJ16_inflate : xI := (yJ16_inflate, 53, cJ16_inflate, 5, (Option.none : Option Jvm.ClassFile.FieldType), [])
theorem kJ16_inflate : xMk iJ16_inflate 5 := ⟨q462, q139, ⟨by decide +kernel, by decide +kernel⟩, by decide +kernel, by decide, rfl⟩
def iJ16_equals : xI := (yJ16_equals, 53, cJ16_equals, 3, (Option.some Jvm.ClassFile.FieldType.boolean), [])
theorem kJ16_equals : xMk iJ16_equals 2 := ⟨q720, q139, ⟨by decide +kernel, by decide +kernel⟩, by decide +kernel, by decide, rfl⟩
def iJ16_indexOf : xI := (yJ16_indexOf, 53, cJ16_indexOf, 4, (Option.some Jvm.ClassFile.FieldType.int), [])
theorem kJ16_indexOf : xMk iJ16_indexOf 4 := ⟨q743, q139, ⟨by decide +kernel, by decide +kernel⟩, by decide +kernel, by decide, rfl⟩
def iJ16_canEncode_2 : xI := (yJ16_canEncode_2, 53, cJ16_canEncode_2, 1, (Option.some Jvm.ClassFile.FieldType.boolean), [])
theorem kJ16_canEncode_2 : xMk iJ16_canEncode_2 1 := ⟨q746, q139, ⟨by decide +kernel, by decide +kernel⟩, by decide +kernel, by decide, rfl⟩
def iJ16_indexOfChar : xI := (yJ16_indexOfChar, 53, cJ16_indexOfChar, 6, (Option.some Jvm.ClassFile.FieldType.int), [])
theorem kJ16_indexOfChar : xMk iJ16_indexOfChar 4 := ⟨q751, q139, ⟨by decide +kernel, by decide +kernel⟩, by decide +kernel, by decide, rfl⟩
def iJ16_hashCode : xI := (yJ16_hashCode, 53, cJ16_hashCode, 1, (Option.some Jvm.ClassFile.FieldType.int), [])
theorem kJ16_hashCode : xMk iJ16_hashCode 1 := ⟨q1083, q139, ⟨by decide +kernel, by decide +kernel⟩, by decide +kernel, by decide, rfl⟩
def iJ16_compareTo : xI := (yJ16_compareTo, 53, cJ16_compareTo, 4, (Option.some Jvm.ClassFile.FieldType.int), [])
theorem kJ16_compareTo : xMk iJ16_compareTo 2 := ⟨q1332, q139, ⟨by decide +kernel, by decide +kernel⟩, by decide +kernel, by decide, rfl⟩
def iJ16_compareTo_2 : xI := (yJ16_compareTo_2, 53, cJ16_compareTo_2, 6, (Option.some Jvm.ClassFile.FieldType.int), [])
theorem kJ16_compareTo_2 : xMk iJ16_compareTo_2 4 := ⟨q1335, q139, ⟨by decide +kernel, by decide +kernel⟩, by decide +kernel, by decide, rfl⟩
def iJ16_getChar : xI := (yJ16_getChar, 53, cJ16_getChar, 2, (Option.some Jvm.ClassFile.FieldType.char), [])
theorem kJ16_getChar : xMk iJ16_getChar 2 := ⟨q1442, q139, ⟨by decide +kernel, by decide +kernel⟩, by decide +kernel, by decide, rfl⟩
def iJ16_compareToUTF16 : xI := (yJ16_compareToUTF16, 53, cJ16_compareToUTF16, 4, (Option.some Jvm.ClassFile.FieldType.int), [])
theorem kJ16_compareToUTF16 : xMk iJ16_compareToUTF16 2 := ⟨q1451, q139, ⟨by decide +kernel, by decide +kernel⟩, by decide +kernel, by decide, rfl⟩
def iJ16_length : xI := (yJ16_length, 53, cJ16_length, 1, (Option.some Jvm.ClassFile.FieldType.int), [])
theorem kJ16_length : xMk iJ16_length 1 := ⟨q1454, q139, ⟨by decide +kernel, by decide +kernel⟩, by decide +kernel, by decide, rfl⟩
def iJ16_compareToUTF16Values : xI := (yJ16_compareToUTF16Values, 53, cJ16_compareToUTF16Values, 8, (Option.some Jvm.ClassFile.FieldType.int), [])
theorem kJ16_compareToUTF16Values : xMk iJ16_compareToUTF16Values 4 := ⟨q1458, q139, ⟨by decide +kernel, by decide +kernel⟩, by decide +kernel, by decide, rfl⟩
def iJ16_compareToUTF16_2 : xI := (yJ16_compareToUTF16_2, 53, cJ16_compareToUTF16_2, 4, (Option.some Jvm.ClassFile.FieldType.int), [])
theorem kJ16_compareToUTF16_2 : xMk iJ16_compareToUTF16_2 4 := ⟨q1490, q139, ⟨by decide +kernel, by decide +kernel⟩, by decide +kernel, by decide, rfl⟩
def iJ16_charAt : xI := (yJ16_charAt, 53, cJ16_charAt, 2, (Option.some Jvm.ClassFile.FieldType.char), [])
theorem kJ16_charAt : xMk iJ16_charAt 2 := ⟨q1535, q139, ⟨by decide +kernel, by decide +kernel⟩, by decide +kernel, by decide, rfl⟩
def iJ17_checkFromIndexSize : xI := (yJ17_checkFromIndexSize, 71, cJ17_checkFromIndexSize, 4, (Option.some Jvm.ClassFile.FieldType.int), [])
theorem kJ17_checkFromIndexSize : xMk iJ17_checkFromIndexSize 4 := ⟨q479, q140, ⟨by decide +kernel, by decide +kernel⟩, by decide +kernel, by decide, rfl⟩
def iJ17_checkIndex : xI := (yJ17_checkIndex, 71, cJ17_checkIndex, 3, (Option.some Jvm.ClassFile.FieldType.int), [])
theorem kJ17_checkIndex : xMk iJ17_checkIndex 3 := ⟨q500, q140, ⟨by decide +kernel, by decide +kernel⟩, by decide +kernel, by decide, rfl⟩
def iJ17_checkFromToIndex : xI := (yJ17_checkFromToIndex, 71, cJ17_checkFromToIndex, 4, (Option.some Jvm.ClassFile.FieldType.int), [])
theorem kJ17_checkFromToIndex : xMk iJ17_checkFromToIndex 4 := ⟨q610, q140, ⟨by decide +kernel, by decide +kernel⟩, by decide +kernel, by decide, rfl⟩
def iJ18_init : xI := (yJ18_init, 48, cJ18_init, 1, (Option.none : Option Jvm.ClassFile.FieldType), [])
theorem kJ18_init : xMk iJ18_init 0 := ⟨q1589, q141, ⟨by decide +kernel, by decide +kernel⟩, by decide +kernel, by decide, rfl⟩
def iJ19_stringSize : xI := (yJ19_stringSize, 45, cJ19_stringSize, 4, (Option.some Jvm.ClassFile.FieldType.int), [])
theorem kJ19_stringSize : xMk iJ19_stringSize 1 := ⟨q591, q142, ⟨by decide +kernel, by decide +kernel⟩, by decide +kernel, by decide, rfl⟩
def iJ19_getChars : xI := (yJ19_getChars, 45, cJ19_getChars, 7, (Option.some Jvm.ClassFile.FieldType.int), [])
theorem kJ19_getChars : xMk iJ19_getChars 3 := ⟨q594, q142, ⟨by decide +kernel, by decide +kernel⟩, by decide +kernel, by decide, rfl⟩
def iJ19_hashCode : xI := (yJ19_hashCode, 45, cJ19_hashCode, 1, (Option.some Jvm.ClassFile.FieldType.int), [])
theorem kJ19_hashCode : xMk iJ19_hashCode 0 := ⟨q1074, q142, ⟨by decide +kernel, by decide +kernel⟩, by decide +kernel, by decide, rfl⟩
def iJ19_hashCode_2 : xI := (yJ19_hashCode_2, 45, cJ19_hashCode_2, 1, (Option.some Jvm.ClassFile.FieldType.int), [])
theorem kJ19_hashCode_2 : xMk iJ19_hashCode_2 1 := ⟨q1077, q142, ⟨by decide +kernel, by decide +kernel⟩, by decide +kernel, by decide, rfl⟩
def iJ19_equals : xI := (yJ19_equals, 45, cJ19_equals, 2, (Option.some Jvm.ClassFile.FieldType.boolean), [])
theorem kJ19_equals : xMk iJ19_equals 1 := ⟨q1186, q142, ⟨by decide +kernel, by decide +kernel⟩, by decide +kernel, by decide, rfl⟩
def iJ19_intValue : xI := (yJ19_intValue, 45, cJ19_intValue, 1, (Option.some Jvm.ClassFile.FieldType.int), [])
theorem kJ19_intValue : xMk iJ19_intValue 0 := ⟨q1191, q142, ⟨by decide +kernel, by decide +kernel⟩, by decide +kernel, by decide, rfl⟩
def iJ19_compareTo : xI := (yJ19_compareTo, 45, cJ19_compareTo, 2, (Option.some Jvm.ClassFile.FieldType.int), [])
theorem kJ19_compareTo : xMk iJ19_compareTo 1 := ⟨q1312, q142, ⟨by decide +kernel, by decide +kernel⟩, by decide +kernel, by decide, rfl⟩
def iJ19_compareTo_2 : xI := (yJ19_compareTo_2, 45, cJ19_compareTo_2, 2, (Option.some Jvm.ClassFile.FieldType.int), [])
theorem kJ19_compareTo_2 : xMk iJ19_compareTo_2 1 := ⟨q1316, q142, ⟨by decide +kernel, by decide +kernel⟩, by decide +kernel, by decide, rfl⟩
def iJ19_compare : xI := (yJ19_compare, 45, cJ19_compare, 2, (Option.some Jvm.ClassFile.FieldType.int), [])
theorem kJ19_compare : xMk iJ19_compare 2 := ⟨q1319, q142, ⟨by decide +kernel, by decide +kernel⟩, by decide +kernel, by decide, rfl⟩
def iJ19_numberOfLeadingZeros : xI := (yJ19_numberOfLeadingZeros, 45, cJ19_numberOfLeadingZeros, 2, (Option.some Jvm.ClassFile.FieldType.int), [])
theorem kJ19_numberOfLeadingZeros : xMk iJ19_numberOfLeadingZeros 1 := ⟨q1409, q142, ⟨by decide +kernel, by decide +kernel⟩, by decide +kernel, by decide, rfl⟩
def iJ19_numberOfTrailingZeros : xI := (yJ19_numberOfTrailingZeros, 45, cJ19_numberOfTrailingZeros, 2, (Option.some Jvm.ClassFile.FieldType.int), [])
theorem kJ19_numberOfTrailingZeros : xMk iJ19_numberOfTrailingZeros 1 := ⟨q1418, q142, ⟨by decide +kernel, by decide +kernel⟩, by decide +kernel, by decide, rfl⟩
def iJ19_valueOf : xI := (yJ19_valueOf, 45, cJ19_valueOf, 1, (Option.some (Jvm.ClassFile.FieldType.object "java/lang/Integer")), [])
theorem kJ19_valueOf : xMk iJ19_valueOf 1 := ⟨q1578, q142, ⟨by decide +kernel, by decide +kernel⟩, by decide +kernel, by decide, rfl⟩
def iJ19_init : xI := (yJ19_init, 45, cJ19_init, 2, (Option.none : Option Jvm.ClassFile.FieldType), [])
theorem kJ19_init : xMk iJ19_init 1 := ⟨q1586, q142, ⟨by decide +kernel, by decide +kernel⟩, by decide +kernel, by decide, rfl⟩
def iJ19_signum : xI := (yJ19_signum, 45, cJ19_signum, 1, (Option.some Jvm.ClassFile.FieldType.int), [])
theorem kJ19_signum : xMk iJ19_signum 1 := ⟨q1751, q142, ⟨by decide +kernel, by decide +kernel⟩, by decide +kernel, by decide, rfl⟩
def iJ20_isValidCodePoint : xI := (yJ20_isValidCodePoint, 39, cJ20_isValidCodePoint, 2, (Option.some Jvm.ClassFile.FieldType.boolean), [])
theorem kJ20_isValidCodePoint : xMk iJ20_isValidCodePoint 1 := ⟨q769, q143, ⟨by decide +kernel, by decide +kernel⟩, by decide +kernel, by decide, rfl⟩
def iJ20_highSurrogate : xI := (yJ20_highSurrogate, 39, cJ20_highSurrogate, 1, (Option.some Jvm.ClassFile.FieldType.char), [])
theorem kJ20_highSurrogate : xMk iJ20_highSurrogate 1 := ⟨q772, q143, ⟨by decide +kernel, by decide +kernel⟩, by decide +kernel, by decide, rfl⟩
def iJ20_lowSurrogate : xI := (yJ20_lowSurrogate, 39, cJ20_lowSurrogate, 1, (Option.some Jvm.ClassFile.FieldType.char), [])
theorem kJ20_lowSurrogate : xMk iJ20_lowSurrogate 1 := ⟨q776, q143, ⟨by decide +kernel, by decide +kernel⟩, by decide +kernel, by decide, rfl⟩
def iJ21_init : xI := (yJ21_init, 59, cJ21_init, 1, (Option.none : Option Jvm.ClassFile.FieldType), [])
theorem kJ21_init : xMk iJ21_init 0 := ⟨q878, q144, ⟨by decide +kernel, by decide +kernel⟩, by decide +kernel, by decide, rfl⟩
def iJ22_init : xI := (yJ22_init, 63, cJ22_init, 1, (Option.none : Option Jvm.ClassFile.FieldType), [])
theorem kJ22_init : xMk iJ22_init 0 := ⟨q875, q145, ⟨by decide +kernel, by decide +kernel⟩, by decide +kernel, by decide, rfl⟩
def iJ22_containsKey : xI := (yJ22_containsKey, 63, cJ22_containsKey, 2, (Option.some Jvm.ClassFile.FieldType.boolean), [])
theorem kJ22_containsKey : xMk iJ22_containsKey 1 := ⟨q1015, q145, ⟨by decide +kernel, by decide +kernel⟩, by decide +kernel, by decide, rfl⟩
def iJ22_getNode : xI := (yJ22_getNode, 63, cJ22_getNode, 8, (Option.some (Jvm.ClassFile.FieldType.object "java/util/HashMap$Node")), [])
theorem kJ22_getNode : xMk iJ22_getNode 1 := ⟨q1019, q145, ⟨by decide +kernel, by decide +kernel⟩, by decide +kernel, by decide, rfl⟩
def iJ22_hash : xI := (yJ22_hash, 63, cJ22_hash, 2, (Option.some Jvm.ClassFile.FieldType.int), [])
theorem kJ22_hash : xMk iJ22_hash 1 := ⟨q1022, q145, ⟨by decide +kernel, by decide +kernel⟩, by decide +kernel, by decide, rfl⟩
def iJ22_comparableClassFor : xI := (yJ22_comparableClassFor, 63, cJ22_comparableClassFor, 9, (Option.some (Jvm.ClassFile.FieldType.object "java/lang/Class")), [])
theorem kJ22_comparableClassFor : xMk iJ22_comparableClassFor 1 := ⟨q1213, q145, ⟨by decide +kernel, by decide +kernel⟩, by decide +kernel, by decide, rfl⟩
def iJ22_compareComparables : xI := (yJ22_compareComparables, 63, cJ22_compareComparables, 3, (Option.some Jvm.ClassFile.FieldType.int), [])
theorem kJ22_compareComparables : xMk iJ22_compareComparables 3 := ⟨q1219, q145, ⟨by decide +kernel, by decide +kernel⟩, by decide +kernel, by decide, rfl⟩
def iJ22_size : xI := (yJ22_size, 63, cJ22_size, 1, (Option.some Jvm.ClassFile.FieldType.int), [])
theorem kJ22_size : xMk iJ22_size 0 := ⟨q1503, q145, ⟨by decide +kernel, by decide +kernel⟩, by decide +kernel, by decide, rfl⟩
def iJ22_get : xI := (yJ22_get, 63, cJ22_get, 3, (Option.some (Jvm.ClassFile.FieldType.object "java/lang/Object")), [])
theorem kJ22_get : xMk iJ22_get 1 := ⟨q1559, q145, ⟨by decide +kernel, by decide +kernel⟩, by decide +kernel, by decide, rfl⟩
def iJ22_put : xI := (yJ22_put, 63, cJ22_put, 3, (Option.some (Jvm.ClassFile.FieldType.object "java/lang/Object")), [])
theorem kJ22_put : xMk iJ22_put 2 := ⟨q1808, q145, ⟨by decide +kernel, by decide +kernel⟩, by decide +kernel, by decide, rfl⟩
def iJ22_putVal : xI := (yJ22_putVal, 63, cJ22_putVal, 13, (Option.some (Jvm.ClassFile.FieldType.object "java/lang/Object")), [])
theorem kJ22_putVal : xMk iJ22_putVal 5 := ⟨q1812, q145, ⟨by decide +kernel, by decide +kernel⟩, by decide +kernel, by decide, rfl⟩
def iJ22_resize : xI := (yJ22_resize, 63, cJ22_resize, 14, (Option.some (Jvm.ClassFile.FieldType.array (Jvm.ClassFile.FieldType.object "java/util/HashMap$Node"))), [])
theorem kJ22_resize : xMk iJ22_resize 0 := ⟨q1816, q145, ⟨by decide +kernel, by decide +kernel⟩, by decide +kernel, by decide, rfl⟩
def iJ22_replacementNode : xI := (yJ22_replacementNode, 63, cJ22_replacementNode, 3, (Option.some (Jvm.ClassFile.FieldType.object "java/util/HashMap$Node")), [])
theorem kJ22_replacementNode : xMk iJ22_replacementNode 2 := ⟨q1834, q145, ⟨by decide +kernel, by decide +kernel⟩, by decide +kernel, by decide, rfl⟩
def iJ22_newNode : xI := (yJ22_newNode, 63, cJ22_newNode, 5, (Option.some (Jvm.ClassFile.FieldType.object "java/util/HashMap$Node")), [])
theorem kJ22_newNode : xMk iJ22_newNode 4 := ⟨q1886, q145, ⟨by decide +kernel, by decide +kernel⟩, by decide +kernel, by decide, rfl⟩
def iJ22_newTreeNode : xI := (yJ22_newTreeNode, 63, cJ22_newTreeNode, 5, (Option.some (Jvm.ClassFile.FieldType.object "java/util/HashMap$TreeNode")), [])
theorem kJ22_newTreeNode : xMk iJ22_newTreeNode 4 := ⟨q1894, q145, ⟨by decide +kernel, by decide +kernel⟩, by decide +kernel, by decide, rfl⟩
def iJ22_treeifyBin : xI := (yJ22_treeifyBin, 63, cJ22_treeifyBin, 9, (Option.none : Option Jvm.ClassFile.FieldType), [])
theorem kJ22_treeifyBin : xMk iJ22_treeifyBin 2 := ⟨q1931, q145, ⟨by decide +kernel, by decide +kernel⟩, by decide +kernel, by decide, rfl⟩
def iJ22_replacementTreeNode : xI := (yJ22_replacementTreeNode, 63, cJ22_replacementTreeNode, 3, (Option.some (Jvm.ClassFile.FieldType.object "java/util/HashMap$TreeNode")), [])
theorem kJ22_replacementTreeNode : xMk iJ22_replacementTreeNode 2 := ⟨q1935, q145, ⟨by decide +kernel, by decide +kernel⟩, by decide +kernel, by decide, rfl⟩
def iJ22_afterNodeAccess : xI := (yJ22_afterNodeAccess, 63, cJ22_afterNodeAccess, 2, (Option.none : Option Jvm.ClassFile.FieldType), [])
theorem kJ22_afterNodeAccess : xMk iJ22_afterNodeAccess 1 := ⟨q1940, q145, ⟨by decide +kernel, by decide +kernel⟩, by decide +kernel, by decide, rfl⟩
def iJ22_afterNodeInsertion : xI := (yJ22_afterNodeInsertion, 63, cJ22_afterNodeInsertion, 2, (Option.none : Option Jvm.ClassFile.FieldType), [])
theorem kJ22_afterNodeInsertion : xMk iJ22_afterNodeInsertion 1 := ⟨q1944, q145, ⟨by decide +kernel, by decide +kernel⟩, by decide +kernel, by decide, rfl⟩
def iJ23_checkIndex : xI := (yJ23_checkIndex, 67, cJ23_checkIndex, 2, (Option.some Jvm.ClassFile.FieldType.int), [])
theorem kJ23_checkIndex : xMk iJ23_checkIndex 2 := ⟨q949, q146, ⟨by decide +kernel, by decide +kernel⟩, by decide +kernel, by decide, rfl⟩
def iJ23_requireNonNull : xI := (yJ23_requireNonNull, 67, cJ23_requireNonNull, 1, (Option.some (Jvm.ClassFile.FieldType.object "java/lang/Object")), [])
theorem kJ23_requireNonNull : xMk iJ23_requireNonNull 1 := ⟨q1993, q146, ⟨by decide +kernel, by decide +kernel⟩, by decide +kernel, by decide, rfl⟩
def iX10_init : xI := (yX10_init, 8, cX10_init, 3, (Option.none : Option Jvm.ClassFile.FieldType), [])
theorem kX10_init : xMk iX10_init 2 := ⟨q997, q147, ⟨by decide +kernel, by decide +kernel⟩, by decide +kernel, by decide, rfl⟩
def iJ24_getLongUnaligned : xI := (yJ24_getLongUnaligned, 69, cJ24_getLongUnaligned, 4, (Option.some Jvm.ClassFile.FieldType.long), [])
theorem kJ24_getLongUnaligned : xMk iJ24_getLongUnaligned 2 := ⟨q1353, q148, ⟨by decide +kernel, by decide +kernel⟩, by decide +kernel, by decide, rfl⟩
def iJ24_makeLong : xI := (yJ24_makeLong, 69, cJ24_makeLong, 2, (Option.some Jvm.ClassFile.FieldType.long), [])
theorem kJ24_makeLong : xMk iJ24_makeLong 2 := ⟨q1367, q148, ⟨by decide +kernel, by decide +kernel⟩, by decide +kernel, by decide, rfl⟩
def iJ24_toUnsignedLong : xI := (yJ24_toUnsignedLong, 69, cJ24_toUnsignedLong, 1, (Option.some Jvm.ClassFile.FieldType.long), [])
theorem kJ24_toUnsignedLong : xMk iJ24_toUnsignedLong 1 := ⟨q1370, q148, ⟨by decide +kernel, by decide +kernel⟩, by decide +kernel, by decide, rfl⟩
def iJ24_pickPos : xI := (yJ24_pickPos, 69, cJ24_pickPos, 2, (Option.some Jvm.ClassFile.FieldType.int), [])
theorem kJ24_pickPos : xMk iJ24_pickPos 2 := ⟨q1374, q148, ⟨by decide +kernel, by decide +kernel⟩, by decide +kernel, by decide, rfl⟩
def iJ24_makeLong_2 : xI := (yJ24_makeLong_2, 69, cJ24_makeLong_2, 4, (Option.some Jvm.ClassFile.FieldType.long), [])
theorem kJ24_makeLong_2 : xMk iJ24_makeLong_2 4 := ⟨q1385, q148, ⟨by decide +kernel, by decide +kernel⟩, by decide +kernel, by decide, rfl⟩
def iJ24_toUnsignedLong_2 : xI := (yJ24_toUnsignedLong_2, 69, cJ24_toUnsignedLong_2, 1, (Option.some Jvm.ClassFile.FieldType.long), [])
theorem kJ24_toUnsignedLong_2 : xMk iJ24_toUnsignedLong_2 1 := ⟨q1388, q148, ⟨by decide +kernel, by decide +kernel⟩, by decide +kernel, by decide, rfl⟩
def iJ24_makeLong_3 : xI := (yJ24_makeLong_3, 69, cJ24_makeLong_3, 8, (Option.some Jvm.ClassFile.FieldType.long), [])
theorem kJ24_makeLong_3 : xMk iJ24_makeLong_3 8 := ⟨q1397, q148, ⟨by decide +kernel, by decide +kernel⟩, by decide +kernel, by decide, rfl⟩
def iJ24_toUnsignedLong_3 : xI := (yJ24_toUnsignedLong_3, 69, cJ24_toUnsignedLong_3, 1, (Option.some Jvm.ClassFile.FieldType.long), [])
theorem kJ24_toUnsignedLong_3 : xMk iJ24_toUnsignedLong_3 1 := ⟨q1400, q148, ⟨by decide +kernel, by decide +kernel⟩, by decide +kernel, by decide, rfl⟩
def iJ24_getIntUnaligned : xI := (yJ24_getIntUnaligned, 69, cJ24_getIntUnaligned, 4, (Option.some Jvm.ClassFile.FieldType.int), [])
theorem kJ24_getIntUnaligned : xMk iJ24_getIntUnaligned 2 := ⟨q1424, q148, ⟨by decide +kernel, by decide +kernel⟩, by decide +kernel, by decide, rfl⟩
def iJ24_makeInt : xI := (yJ24_makeInt, 69, cJ24_makeInt, 2, (Option.some Jvm.ClassFile.FieldType.int), [])
theorem kJ24_makeInt : xMk iJ24_makeInt 2 := ⟨q1427, q148, ⟨by decide +kernel, by decide +kernel⟩, by decide +kernel, by decide, rfl⟩
def iJ24_toUnsignedInt : xI := (yJ24_toUnsignedInt, 69, cJ24_toUnsignedInt, 1, (Option.some Jvm.ClassFile.FieldType.int), [])
theorem kJ24_toUnsignedInt : xMk iJ24_toUnsignedInt 1 := ⟨q1430, q148, ⟨by decide +kernel, by decide +kernel⟩, by decide +kernel, by decide, rfl⟩
def iJ24_makeInt_2 : xI := (yJ24_makeInt_2, 69, cJ24_makeInt_2, 4, (Option.some Jvm.ClassFile.FieldType.int), [])
theorem kJ24_makeInt_2 : xMk iJ24_makeInt_2 4 := ⟨q1434, q148, ⟨by decide +kernel, by decide +kernel⟩, by decide +kernel, by decide, rfl⟩
def iJ24_toUnsignedInt_2 : xI := (yJ24_toUnsignedInt_2, 69, cJ24_toUnsignedInt_2, 1, (Option.some Jvm.ClassFile.FieldType.int), [])
theorem kJ24_toUnsignedInt_2 : xMk iJ24_toUnsignedInt_2 1 := ⟨q1437, q148, ⟨by decide +kernel, by decide +kernel⟩, by decide +kernel, by decide, rfl⟩
def iJ25_numberOfLeadingZeros : xI := (yJ25_numberOfLeadingZeros, 46, cJ25_numberOfLeadingZeros, 3, (Option.some Jvm.ClassFile.FieldType.int), [])
theorem kJ25_numberOfLeadingZeros : xMk iJ25_numberOfLeadingZeros 1 := ⟨q1406, q150, ⟨by decide +kernel, by decide +kernel⟩, by decide +kernel, by decide, rfl⟩
def iJ25_numberOfTrailingZeros : xI := (yJ25_numberOfTrailingZeros, 46, cJ25_numberOfTrailingZeros, 3, (Option.some Jvm.ClassFile.FieldType.int), [])
theorem kJ25_numberOfTrailingZeros : xMk iJ25_numberOfTrailingZeros 1 := ⟨q1415, q150, ⟨by decide +kernel, by decide +kernel⟩, by decide +kernel, by decide, rfl⟩
def iX11_init : xI := (yX11_init, 22, cX11_init, 1, (Option.none : Option Jvm.ClassFile.FieldType), [])
theorem kX11_init : xMk iX11_init 0 := ⟨q1545, q151, ⟨by decide +kernel, by decide +kernel⟩, by decide +kernel, by decide, rfl⟩
def iX12_init : xI := (yX12_init, 11, cX12_init, 2, (Option.none : Option Jvm.ClassFile.FieldType), [])
theorem kX12_init : xMk iX12_init 1 := ⟨q1542, q152, ⟨by decide +kernel, by decide +kernel⟩, by decide +kernel, by decide, rfl⟩
def iX12_of : xI := (yX12_of, 11, cX12_of, 2, (Option.some Jvm.ClassFile.FieldType.int), [])
theorem kX12_of : xMk iX12_of 1 := ⟨q1757, q152, ⟨by decide +kernel, by decide +kernel⟩, by decide +kernel, by decide, rfl⟩
def iJ26_ofNullable : xI := (yJ26_ofNullable, 68, cJ26_ofNullable, 1, (Option.some (Jvm.ClassFile.FieldType.object "java/util/Optional")), [])
theorem kJ26_ofNullable : xMk iJ26_ofNullable 1 := ⟨q1563, q153, ⟨by decide +kernel, by decide +kernel⟩, by decide +kernel, by decide, rfl⟩
def iJ26_init : xI := (yJ26_init, 68, cJ26_init, 2, (Option.none : Option Jvm.ClassFile.FieldType), [])
theorem kJ26_init : xMk iJ26_init 1 := ⟨q1570, q153, ⟨by decide +kernel, by decide +kernel⟩, by decide +kernel, by decide, rfl⟩
def iJ26_orElse : xI := (yJ26_orElse, 68, cJ26_orElse, 2, (Option.some (Jvm.ClassFile.FieldType.object "java/lang/Object")), [])
theorem kJ26_orElse : xMk iJ26_orElse 1 := ⟨q1598, q153, ⟨by decide +kernel, by decide +kernel⟩, by decide +kernel, by decide, rfl⟩
def iJ26_empty : xI := (yJ26_empty, 68, cJ26_empty, 1, (Option.some (Jvm.ClassFile.FieldType.object "java/util/Optional")), [])
theorem kJ26_empty : xMk iJ26_empty 0 := ⟨q2033, q153, ⟨by decide +kernel, by decide +kernel⟩, by decide +kernel, by decide, rfl⟩
def iJ26_of : xI := (yJ26_of, 68, cJ26_of, 1, (Option.some (Jvm.ClassFile.FieldType.object "java/util/Optional")), [])
theorem kJ26_of : xMk iJ26_of 1 := ⟨q2036, q153, ⟨by decide +kernel, by decide +kernel⟩, by decide +kernel, by decide, rfl⟩
def iJ26_get : xI := (yJ26_get, 68, cJ26_get, 1, (Option.some (Jvm.ClassFile.FieldType.object "java/lang/Object")), [])
theorem kJ26_get : xMk iJ26_get 0 := ⟨q2276, q153, ⟨by decide +kernel, by decide +kernel⟩, by decide +kernel, by decide, rfl⟩
def iX13_init : xI := (yX13_init, 3, cX13_init, 3, (Option.none : Option Jvm.ClassFile.FieldType), [])
theorem kX13_init : xMk iX13_init 2 := ⟨q1604, q155, ⟨by decide +kernel, by decide +kernel⟩, by decide +kernel, by decide, rfl⟩
def iX13_of : xI := (yX13_of, 3, cX13_of, 2, (Option.some Jvm.ClassFile.FieldType.int), [])
theorem kX13_of : xMk iX13_of 1 := ⟨q1730, q155, ⟨by decide +kernel, by decide +kernel⟩, by decide +kernel, by decide, rfl⟩
def iX14_init : xI := (yX14_init, 1, cX14_init, 3, (Option.none : Option Jvm.ClassFile.FieldType), [])
theorem kX14_init : xMk iX14_init 2 := ⟨q1627, q157, ⟨by decide +kernel, by decide +kernel⟩, by decide +kernel, by decide, rfl⟩
def iX14_of : xI := (yX14_of, 1, cX14_of, 2, (Option.some Jvm.ClassFile.FieldType.int), [])
theorem kX14_of : xMk iX14_of 1 := ⟨q1694, q157, ⟨by decide +kernel, by decide +kernel⟩, by decide +kernel, by decide, rfl⟩
def iX15_init : xI := (yX15_init, 29, cX15_init, 2, (Option.none : Option Jvm.ClassFile.FieldType), [])
theorem kX15_init : xMk iX15_init 1 := ⟨q1645, q159, ⟨by decide +kernel, by decide +kernel⟩, by decide +kernel, by decide, rfl⟩
def iX15_of : xI := (yX15_of, 29, cX15_of, 2, (Option.some Jvm.ClassFile.FieldType.int), [])
theorem kX15_of : xMk iX15_of 1 := ⟨q1759, q159, ⟨by decide +kernel, by decide +kernel⟩, by decide +kernel, by decide, rfl⟩
def iX16_init : xI := (yX16_init, 10, cX16_init, 4, (Option.none : Option Jvm.ClassFile.FieldType), [])
theorem kX16_init : xMk iX16_init 3 := ⟨q1661, q161, ⟨by decide +kernel, by decide +kernel⟩, by decide +kernel, by decide, rfl⟩
def iX16_of : xI := (yX16_of, 10, cX16_of, 2, (Option.some Jvm.ClassFile.FieldType.int), [])
theorem kX16_of : xMk iX16_of 1 := ⟨q1754, q161, ⟨by decide +kernel, by decide +kernel⟩, by decide +kernel, by decide, rfl⟩
def iJ27_init : xI := (yJ27_init, 64, cJ27_init, 5, (Option.none : Option Jvm.ClassFile.FieldType), [])
theorem kJ27_init : xMk iJ27_init 4 := ⟨q1838, q162, ⟨by decide +kernel, by decide +kernel⟩, by decide +kernel, by decide, rfl⟩
def iJ28_init : xI := (yJ28_init, 66, cJ28_init, 5, (Option.none : Option Jvm.ClassFile.FieldType), [])
theorem kJ28_init : xMk iJ28_init 4 := ⟨q1901, q163, ⟨by decide +kernel, by decide +kernel⟩, by decide +kernel, by decide, rfl⟩
def iJ29_getTreeNode : xI := (yJ29_getTreeNode, 65, cJ29_getTreeNode, 3, (Option.some (Jvm.ClassFile.FieldType.object "java/util/HashMap$TreeNode")), [])
theorem kJ29_getTreeNode : xMk iJ29_getTreeNode 2 := ⟨q1201, q164, ⟨by decide +kernel, by decide +kernel⟩, by decide +kernel, by decide, rfl⟩
def iJ29_root : xI := (yJ29_root, 65, cJ29_root, 3, (Option.some (Jvm.ClassFile.FieldType.object "java/util/HashMap$TreeNode")), [])
theorem kJ29_root : xMk iJ29_root 0 := ⟨q1205, q164, ⟨by decide +kernel, by decide +kernel⟩, by decide +kernel, by decide, rfl⟩
def iJ29_find : xI := (yJ29_find, 65, cJ29_find, 11, (Option.some (Jvm.ClassFile.FieldType.object "java/util/HashMap$TreeNode")), [])
theorem kJ29_find : xMk iJ29_find 3 := ⟨q1209, q164, ⟨by decide +kernel, by decide +kernel⟩, by decide +kernel, by decide, rfl⟩
def iJ29_split : xI := (yJ29_split, 65, cJ29_split, 14, (Option.none : Option Jvm.ClassFile.FieldType), [])
theorem kJ29_split : xMk iJ29_split 4 := ⟨q1825, q164, ⟨by decide +kernel, by decide +kernel⟩, by decide +kernel, by decide, rfl⟩
def iJ29_untreeify : xI := (yJ29_untreeify, 65, cJ29_untreeify, 6, (Option.some (Jvm.ClassFile.FieldType.object "java/util/HashMap$Node")), [])
theorem kJ29_untreeify : xMk iJ29_untreeify 1 := ⟨q1830, q164, ⟨by decide +kernel, by decide +kernel⟩, by decide +kernel, by decide, rfl⟩
def iJ29_treeify : xI := (yJ29_treeify, 65, cJ29_treeify, 13, (Option.none : Option Jvm.ClassFile.FieldType), [])
theorem kJ29_treeify : xMk iJ29_treeify 1 := ⟨q1868, q164, ⟨by decide +kernel, by decide +kernel⟩, by decide +kernel, by decide, rfl⟩
def iJ29_balanceInsertion : xI := (yJ29_balanceInsertion, 65, cJ29_balanceInsertion, 6, (Option.some (Jvm.ClassFile.FieldType.object "java/util/HashMap$TreeNode")), [])
theorem kJ29_balanceInsertion : xMk iJ29_balanceInsertion 2 := ⟨q1871, q164, ⟨by decide +kernel, by decide +kernel⟩, by decide +kernel, by decide, rfl⟩
def iJ29_rotateLeft : xI := (yJ29_rotateLeft, 65, cJ29_rotateLeft, 5, (Option.some (Jvm.ClassFile.FieldType.object "java/util/HashMap$TreeNode")), [])
theorem kJ29_rotateLeft : xMk iJ29_rotateLeft 2 := ⟨q1874, q164, ⟨by decide +kernel, by decide +kernel⟩, by decide +kernel, by decide, rfl⟩
def iJ29_rotateRight : xI := (yJ29_rotateRight, 65, cJ29_rotateRight, 5, (Option.some (Jvm.ClassFile.FieldType.object "java/util/HashMap$TreeNode")), [])
theorem kJ29_rotateRight : xMk iJ29_rotateRight 2 := ⟨q1877, q164, ⟨by decide +kernel, by decide +kernel⟩, by decide +kernel, by decide, rfl⟩
def iJ29_moveRootToFront : xI := (yJ29_moveRootToFront, 65, cJ29_moveRootToFront, 7, (Option.none : Option Jvm.ClassFile.FieldType), [])
theorem kJ29_moveRootToFront : xMk iJ29_moveRootToFront 2 := ⟨q1880, q164, ⟨by decide +kernel, by decide +kernel⟩, by decide +kernel, by decide, rfl⟩
def iJ29_putTreeVal : xI := (yJ29_putTreeVal, 65, cJ29_putTreeVal, 16, (Option.some (Jvm.ClassFile.FieldType.object "java/util/HashMap$TreeNode")), [])
theorem kJ29_putTreeVal : xMk iJ29_putTreeVal 5 := ⟨q1890, q164, ⟨by decide +kernel, by decide +kernel⟩, by decide +kernel, by decide, rfl⟩
def iJ29_init : xI := (yJ29_init, 65, cJ29_init, 5, (Option.none : Option Jvm.ClassFile.FieldType), [])
theorem kJ29_init : xMk iJ29_init 4 := ⟨q1898, q164, ⟨by decide +kernel, by decide +kernel⟩, by decide +kernel, by decide, rfl⟩
def iX17_area : xI := (yX17_area, 24, cX17_area, 3, (Option.some Jvm.ClassFile.FieldType.int), [])
theorem kX17_area : xMk iX17_area 0 := ⟨q1712, q165, ⟨by decide +kernel, by decide +kernel⟩, by decide +kernel, by decide, rfl⟩
def iX17_x : xI := (yX17_x, 24, cX17_x, 2, (Option.some Jvm.ClassFile.FieldType.int), [])
theorem kX17_x : xMk iX17_x 1 := ⟨q1716, q165, ⟨by decide +kernel, by decide +kernel⟩, by decide +kernel, by decide, rfl⟩
def iX17_next : xI := (yX17_next, 24, cX17_next, 2, (Option.some Jvm.ClassFile.FieldType.int), [])
theorem kX17_next : xMk iX17_next 1 := ⟨q1720, q165, ⟨by decide +kernel, by decide +kernel⟩, by decide +kernel, by decide, rfl⟩
def iX17_y : xI := (yX17_y, 24, cX17_y, 2, (Option.some Jvm.ClassFile.FieldType.int), [])
theorem kX17_y : xMk iX17_y 1 := ⟨q1724, q165, ⟨by decide +kernel, by decide +kernel⟩, by decide +kernel, by decide, rfl⟩
def iX17_crosses : xI := (yX17_crosses, 24, cX17_crosses, 5, (Option.some Jvm.ClassFile.FieldType.int), [])
theorem kX17_crosses : xMk iX17_crosses 1 := ⟨q1736, q165, ⟨by decide +kernel, by decide +kernel⟩, by decide +kernel, by decide, rfl⟩
def iX17_parts : xI := (yX17_parts, 24, cX17_parts, 6, (Option.some Jvm.ClassFile.FieldType.boolean), [])
theorem kX17_parts : xMk iX17_parts 3 := ⟨q1741, q165, ⟨by decide +kernel, by decide +kernel⟩, by decide +kernel, by decide, rfl⟩
def iX17_side : xI := (yX17_side, 24, cX17_side, 4, (Option.some Jvm.ClassFile.FieldType.int), [])
theorem kX17_side : xMk iX17_side 3 := ⟨q1745, q165, ⟨by decide +kernel, by decide +kernel⟩, by decide +kernel, by decide, rfl⟩
def iX17_init : xI := (yX17_init, 24, cX17_init, 4, (Option.none : Option Jvm.ClassFile.FieldType), [])
theorem kX17_init : xMk iX17_init 2 := ⟨q1996, q165, ⟨by decide +kernel, by decide +kernel⟩, by decide +kernel, by decide, rfl⟩
def iX17_lies : xI := (yX17_lies, 24, cX17_lies, 5, (Option.some Jvm.ClassFile.FieldType.int), [])
theorem kX17_lies : xMk iX17_lies 2 := ⟨q2236, q165, ⟨by decide +kernel, by decide +kernel⟩, by decide +kernel, by decide, rfl⟩
def iX17_isOn : xI := (yX17_isOn, 24, cX17_isOn, 4, (Option.some Jvm.ClassFile.FieldType.boolean), [])
theorem kX17_isOn : xMk iX17_isOn 3 := ⟨q2240, q165, ⟨by decide +kernel, by decide +kernel⟩, by decide +kernel, by decide, rfl⟩
def iX17_isRight : xI := (yX17_isRight, 24, cX17_isRight, 5, (Option.some Jvm.ClassFile.FieldType.boolean), [])
theorem kX17_isRight : xMk iX17_isRight 3 := ⟨q2249, q165, ⟨by decide +kernel, by decide +kernel⟩, by decide +kernel, by decide, rfl⟩
def iX17_gridPoints : xI := (yX17_gridPoints, 24, cX17_gridPoints, 3, (Option.some Jvm.ClassFile.FieldType.int), [])
theorem kX17_gridPoints : xMk iX17_gridPoints 0 := ⟨q2420, q165, ⟨by decide +kernel, by decide +kernel⟩, by decide +kernel, by decide, rfl⟩
def iX17_isConvex : xI := (yX17_isConvex, 24, cX17_isConvex, 2, (Option.some Jvm.ClassFile.FieldType.boolean), [])
theorem kX17_isConvex : xMk iX17_isConvex 0 := ⟨q2429, q165, ⟨by decide +kernel, by decide +kernel⟩, by decide +kernel, by decide, rfl⟩
def iX17_hull : xI := (yX17_hull, 24, cX17_hull, 6, (Option.some (Jvm.ClassFile.FieldType.object "java/util/List")), [])
theorem kX17_hull : xMk iX17_hull 0 := ⟨q2436, q165, ⟨by decide +kernel, by decide +kernel⟩, by decide +kernel, by decide, rfl⟩
def iX17_around : xI := (yX17_around, 24, cX17_around, 9, (Option.some Jvm.ClassFile.FieldType.int), [])
theorem kX17_around : xMk iX17_around 1 := ⟨q2449, q165, ⟨by decide +kernel, by decide +kernel⟩, by decide +kernel, by decide, rfl⟩
def iX17_hullArea : xI := (yX17_hullArea, 24, cX17_hullArea, 6, (Option.some Jvm.ClassFile.FieldType.int), [])
theorem kX17_hullArea : xMk iX17_hullArea 0 := ⟨q2463, q165, ⟨by decide +kernel, by decide +kernel⟩, by decide +kernel, by decide, rfl⟩
def iX17_widest : xI := (yX17_widest, 24, cX17_widest, 4, (Option.some Jvm.ClassFile.FieldType.int), [])
theorem kX17_widest : xMk iX17_widest 0 := ⟨q2468, q165, ⟨by decide +kernel, by decide +kernel⟩, by decide +kernel, by decide, rfl⟩
def iX18_init : xI := (yX18_init, 21, cX18_init, 7, (Option.none : Option Jvm.ClassFile.FieldType), [])
theorem kX18_init : xMk iX18_init 6 := ⟨q2130, q167, ⟨by decide +kernel, by decide +kernel⟩, by decide +kernel, by decide, rfl⟩
def iX19_init : xI := (yX19_init, 14, cX19_init, 2, (Option.none : Option Jvm.ClassFile.FieldType), [])
theorem kX19_init : xMk iX19_init 1 := ⟨q2049, q168, ⟨by decide +kernel, by decide +kernel⟩, by decide +kernel, by decide, rfl⟩
def iX19_holds : xI := (yX19_holds, 14, cX19_holds, 3, (Option.some Jvm.ClassFile.FieldType.boolean), [])
theorem kX19_holds : xMk iX19_holds 1 := ⟨q2255, q168, ⟨by decide +kernel, by decide +kernel⟩, by decide +kernel, by decide, rfl⟩
def iX20_init : xI := (yX20_init, 7, cX20_init, 2, (Option.none : Option Jvm.ClassFile.FieldType), [])
theorem kX20_init : xMk iX20_init 1 := ⟨q2074, q169, ⟨by decide +kernel, by decide +kernel⟩, by decide +kernel, by decide, rfl⟩
def iX20_holds : xI := (yX20_holds, 7, cX20_holds, 2, (Option.some Jvm.ClassFile.FieldType.boolean), [])
theorem kX20_holds : xMk iX20_holds 1 := ⟨q2222, q169, ⟨by decide +kernel, by decide +kernel⟩, by decide +kernel, by decide, rfl⟩
def iX21_init : xI := (yX21_init, 9, cX21_init, 3, (Option.none : Option Jvm.ClassFile.FieldType), [])
theorem kX21_init : xMk iX21_init 2 := ⟨q2087, q170, ⟨by decide +kernel, by decide +kernel⟩, by decide +kernel, by decide, rfl⟩
def iX21_holds : xI := (yX21_holds, 9, cX21_holds, 2, (Option.some Jvm.ClassFile.FieldType.boolean), [])
theorem kX21_holds : xMk iX21_holds 1 := ⟨q2230, q170, ⟨by decide +kernel, by decide +kernel⟩, by decide +kernel, by decide, rfl⟩
def iX22_init : xI := (yX22_init, 2, cX22_init, 4, (Option.none : Option Jvm.ClassFile.FieldType), [])
theorem kX22_init : xMk iX22_init 3 := ⟨q2104, q171, ⟨by decide +kernel, by decide +kernel⟩, by decide +kernel, by decide, rfl⟩
def iX22_holds : xI := (yX22_holds, 2, cX22_holds, 3, (Option.some Jvm.ClassFile.FieldType.boolean), [])
theorem kX22_holds : xMk iX22_holds 1 := ⟨q2212, q171, ⟨by decide +kernel, by decide +kernel⟩, by decide +kernel, by decide, rfl⟩
def iX23_always : xI := (yX23_always, 26, cX23_always, 0, (Option.some (Jvm.ClassFile.FieldType.object "GridTable$Test")), [])
theorem kX23_always : xMk iX23_always 0 := ⟨q2120, q172, ⟨by decide +kernel, by decide +kernel⟩, by decide +kernel, by decide, rfl⟩
def iX24_init : xI := (yX24_init, 27, cX24_init, 1, (Option.none : Option Jvm.ClassFile.FieldType), [])
theorem kX24_init : xMk iX24_init 0 := ⟨q2125, q173, ⟨by decide +kernel, by decide +kernel⟩, by decide +kernel, by decide, rfl⟩
def iX24_holds : xI := (yX24_holds, 27, cX24_holds, 2, (Option.some Jvm.ClassFile.FieldType.boolean), [])
theorem kX24_holds : xMk iX24_holds 1 := ⟨q2266, q173, ⟨by decide +kernel, by decide +kernel⟩, by decide +kernel, by decide, rfl⟩
def iJ30_init : xI := (yJ30_init, 44, cJ30_init, 1, (Option.none : Option Jvm.ClassFile.FieldType), [])
theorem kJ30_init : xMk iJ30_init 0 := ⟨q2378, q174, ⟨by decide +kernel, by decide +kernel⟩, by decide +kernel, by decide, rfl⟩
def iJ30_init_2 : xI := (yJ30_init_2, 44, cJ30_init_2, 2, (Option.none : Option Jvm.ClassFile.FieldType), [])
theorem kJ30_init_2 : xMk iJ30_init_2 1 := ⟨q2553, q174, ⟨by decide +kernel, by decide +kernel⟩, by decide +kernel, by decide, rfl⟩
def iJ31_init : xI := (yJ31_init, 38, cJ31_init, 2, (Option.none : Option Jvm.ClassFile.FieldType), [])
theorem kJ31_init : xMk iJ31_init 1 := ⟨q2550, q175, ⟨by decide +kernel, by decide +kernel⟩, by decide +kernel, by decide, rfl⟩
def iJ32_init : xI := (yJ32_init, 61, cJ32_init, 2, (Option.none : Option Jvm.ClassFile.FieldType), [])
theorem kJ32_init : xMk iJ32_init 1 := ⟨q2312, q176, ⟨by decide +kernel, by decide +kernel⟩, by decide +kernel, by decide, rfl⟩
def iJ32_hasNext : xI := (yJ32_hasNext, 61, cJ32_hasNext, 1, (Option.some Jvm.ClassFile.FieldType.boolean), [])
theorem kJ32_hasNext : xMk iJ32_hasNext 0 := ⟨q2336, q176, ⟨by decide +kernel, by decide +kernel⟩, by decide +kernel, by decide, rfl⟩
def iJ32_next : xI := (yJ32_next, 61, cJ32_next, 3, (Option.some (Jvm.ClassFile.FieldType.object "java/lang/Object")), [])
theorem kJ32_next : xMk iJ32_next 0 := ⟨q2345, q176, ⟨by decide +kernel, by decide +kernel⟩, by decide +kernel, by decide, rfl⟩
def iJ32_checkForComodification : xI := (yJ32_checkForComodification, 61, cJ32_checkForComodification, 1, (Option.none : Option Jvm.ClassFile.FieldType), [])
theorem kJ32_checkForComodification : xMk iJ32_checkForComodification 0 := ⟨q2349, q176, ⟨by decide +kernel, by decide +kernel⟩, by decide +kernel, by decide, rfl⟩
def iJ33_init : xI := (yJ33_init, 49, cJ33_init, 1, (Option.none : Option Jvm.ClassFile.FieldType), [])
theorem kJ33_init : xMk iJ33_init 0 := ⟨q184, q3304, ⟨by decide +kernel, by decide +kernel⟩, by decide +kernel, by decide, rfl⟩
def iJ33_equals : xI := (yJ33_equals, 49, cJ33_equals, 2, (Option.some Jvm.ClassFile.FieldType.boolean), [])
theorem kJ33_equals : xMk iJ33_equals 1 := ⟨q1196, q3304, ⟨by decide +kernel, by decide +kernel⟩, by decide +kernel, by decide, rfl⟩
def iX25_of : xI := (yX25_of, 30, cX25_of, 3, (Option.some Jvm.ClassFile.FieldType.int), [])
def iX26_carry : xI := (yX26_carry, 5, cX26_carry, 9, (Option.none : Option Jvm.ClassFile.FieldType), [])
def iX27_carry : xI := (yX27_carry, 6, cX27_carry, 8, (Option.none : Option Jvm.ClassFile.FieldType), [])
def iX28_carry : xI := (yX28_carry, 4, cX28_carry, 7, (Option.none : Option Jvm.ClassFile.FieldType), [])
def iX29_of : xI := (yX29_of, 31, cX29_of, 3, (Option.some Jvm.ClassFile.FieldType.int), [])
def iX30_of : xI := (yX30_of, 32, cX30_of, 3, (Option.some Jvm.ClassFile.FieldType.int), [])
def iX31_join : xI := (yX31_join, 15, cX31_join, 3, (Option.some Jvm.ClassFile.FieldType.int), [])
def iX32_join : xI := (yX32_join, 16, cX32_join, 3, (Option.some Jvm.ClassFile.FieldType.int), [])
def iX33_join : xI := (yX33_join, 17, cX33_join, 3, (Option.some Jvm.ClassFile.FieldType.int), [])
def iX34_join : xI := (yX34_join, 18, cX34_join, 3, (Option.some Jvm.ClassFile.FieldType.int), [])
def iX35_join : xI := (yX35_join, 19, cX35_join, 3, (Option.some Jvm.ClassFile.FieldType.int), [])
def iX36_join : xI := (yX36_join, 20, cX36_join, 3, (Option.some Jvm.ClassFile.FieldType.int), [])
def iJ34_getUTF16Char : xI := (yJ34_getUTF16Char, 55, cJ34_getUTF16Char, 3, (Option.some Jvm.ClassFile.FieldType.char), [])
def iL_law : xI := (x, 33, cL_law, 9, ret, [])
def xMS (oc idx : Nat) (I : xI) (n : Nat) : Prop := xMk I n ∧ Cond.static (iY I) ∈ lw_all ∧ (Cond.methodLink (ocN oc) idx (iY I) ∈ lw_all ∨ ∃ host, Cond.methodLinkNest (ocN oc) idx (iY I) host ∈ lw_tbl)
def msT0 : List (Nat × xI × Nat) := [(13, iX1_require, 1), (25, iX1_requireIndex, 2), (33, iJ14_min, 2), (39, iJ14_max, 2), (46, iJ14_min_2, 2), (49, iJ14_max_2, 2), (51, iX1_divisor, 2), (80, iX1_requireState, 1), (87, iX1_requireFrom, 3), (181, iJ14_abs, 1), (184, iJ19_signum, 1), (199, iX1_at, 2), (202, iX1_shapeGet, 2), (218, iX1_hullGet, 2)]
theorem msp0_0 : xMS 0 13 iX1_require 1 := ⟨kX1_require, q2537, Or.inl q2536⟩
theorem msp0_1 : xMS 0 25 iX1_requireIndex 2 := ⟨kX1_requireIndex, q2365, Or.inl q2364⟩
theorem msp0_2 : xMS 0 33 iJ14_min 2 := ⟨kJ14_min, q443, Or.inl q2244⟩
theorem msp0_3 : xMS 0 39 iJ14_max 2 := ⟨kJ14_max, q425, Or.inl q2245⟩
theorem msp0_4 : xMS 0 46 iJ14_min_2 2 := ⟨kJ14_min_2, q1796, Or.inl q1795⟩
theorem msp0_5 : xMS 0 49 iJ14_max_2 2 := ⟨kJ14_max_2, q1799, Or.inl q1798⟩
theorem msp0_6 : xMS 0 51 iX1_divisor 2 := ⟨kX1_divisor, q2423, Or.inl q2425⟩
theorem msp0_7 : xMS 0 80 iX1_requireState 1 := ⟨kX1_requireState, q2504, Or.inl q2503⟩
theorem msp0_8 : xMS 0 87 iX1_requireFrom 3 := ⟨kX1_requireFrom, q2534, Or.inl q2533⟩
theorem msp0_9 : xMS 0 181 iJ14_abs 1 := ⟨kJ14_abs, q1726, Or.inl q2414⟩
theorem msp0_10 : xMS 0 184 iJ19_signum 1 := ⟨kJ19_signum, q1750, Or.inl q2415⟩
theorem msp0_11 : xMS 0 199 iX1_at 2 := ⟨kX1_at, q2582, Or.inl q2581⟩
theorem msp0_12 : xMS 0 202 iX1_shapeGet 2 := ⟨kX1_shapeGet, q2411, Or.inl q2410⟩
theorem msp0_13 : xMS 0 218 iX1_hullGet 2 := ⟨kX1_hullGet, q2431, Or.inl q2430⟩
theorem mso0 : ∀ e ∈ msT0, xMS 0 e.1 e.2.1 e.2.2 := List.forall_mem_cons.mpr ⟨msp0_0, List.forall_mem_cons.mpr ⟨msp0_1, List.forall_mem_cons.mpr ⟨msp0_2, List.forall_mem_cons.mpr ⟨msp0_3, List.forall_mem_cons.mpr ⟨msp0_4, List.forall_mem_cons.mpr ⟨msp0_5, List.forall_mem_cons.mpr ⟨msp0_6, List.forall_mem_cons.mpr ⟨msp0_7, List.forall_mem_cons.mpr ⟨msp0_8, List.forall_mem_cons.mpr ⟨msp0_9, List.forall_mem_cons.mpr ⟨msp0_10, List.forall_mem_cons.mpr ⟨msp0_11, List.forall_mem_cons.mpr ⟨msp0_12, List.forall_mem_cons.mpr ⟨msp0_13, (fun _ h => by cases h)⟩⟩⟩⟩⟩⟩⟩⟩⟩⟩⟩⟩⟩⟩
def msT1 : List (Nat × xI × Nat) := []
theorem mso1 : ∀ e ∈ msT1, xMS 1 e.1 e.2.1 e.2.2 := (fun _ h => by cases h)
def msT2 : List (Nat × xI × Nat) := [(26, iJ19_compare, 2)]
theorem msp2_0 : xMS 2 26 iJ19_compare 2 := ⟨kJ19_compare, q1318, Or.inl q2214⟩
theorem mso2 : ∀ e ∈ msT2, xMS 2 e.1 e.2.1 e.2.2 := List.forall_mem_cons.mpr ⟨msp2_0, (fun _ h => by cases h)⟩
def msT3 : List (Nat × xI × Nat) := []
theorem mso3 : ∀ e ∈ msT3, xMS 3 e.1 e.2.1 e.2.2 := (fun _ h => by cases h)
def msT4 : List (Nat × xI × Nat) := []
theorem mso4 : ∀ e ∈ msT4, xMS 4 e.1 e.2.1 e.2.2 := (fun _ h => by cases h)
def msT5 : List (Nat × xI × Nat) := []
theorem mso5 : ∀ e ∈ msT5, xMS 5 e.1 e.2.1 e.2.2 := (fun _ h => by cases h)
def msT6 : List (Nat × xI × Nat) := []
theorem mso6 : ∀ e ∈ msT6, xMS 6 e.1 e.2.1 e.2.2 := (fun _ h => by cases h)
def msT7 : List (Nat × xI × Nat) := []
theorem mso7 : ∀ e ∈ msT7, xMS 7 e.1 e.2.1 e.2.2 := (fun _ h => by cases h)
def msT8 : List (Nat × xI × Nat) := []
theorem mso8 : ∀ e ∈ msT8, xMS 8 e.1 e.2.1 e.2.2 := (fun _ h => by cases h)
def msT9 : List (Nat × xI × Nat) := []
theorem mso9 : ∀ e ∈ msT9, xMS 9 e.1 e.2.1 e.2.2 := (fun _ h => by cases h)
def msT10 : List (Nat × xI × Nat) := []
theorem mso10 : ∀ e ∈ msT10, xMS 10 e.1 e.2.1 e.2.2 := (fun _ h => by cases h)
def msT11 : List (Nat × xI × Nat) := []
theorem mso11 : ∀ e ∈ msT11, xMS 11 e.1 e.2.1 e.2.2 := (fun _ h => by cases h)
def msT12 : List (Nat × xI × Nat) := [(107, iJ19_valueOf, 1), (120, iJ26_ofNullable, 1), (194, iJ23_requireNonNull, 1), (239, iJ26_empty, 0), (243, iJ26_of, 1), (253, iX23_always, 0)]
theorem msp12_0 : xMS 12 107 iJ19_valueOf 1 := ⟨kJ19_valueOf, q1577, Or.inl q1576⟩
theorem msp12_1 : xMS 12 120 iJ26_ofNullable 1 := ⟨kJ26_ofNullable, q1562, Or.inl q1561⟩
theorem msp12_2 : xMS 12 194 iJ23_requireNonNull 1 := ⟨kJ23_requireNonNull, q1992, Or.inl q1991⟩
theorem msp12_3 : xMS 12 239 iJ26_empty 0 := ⟨kJ26_empty, q2032, Or.inl q2031⟩
theorem msp12_4 : xMS 12 243 iJ26_of 1 := ⟨kJ26_of, q2035, Or.inl q2034⟩
theorem msp12_5 : xMS 12 253 iX23_always 0 := ⟨kX23_always, q2119, Or.inl q2118⟩
theorem mso12 : ∀ e ∈ msT12, xMS 12 e.1 e.2.1 e.2.2 := List.forall_mem_cons.mpr ⟨msp12_0, List.forall_mem_cons.mpr ⟨msp12_1, List.forall_mem_cons.mpr ⟨msp12_2, List.forall_mem_cons.mpr ⟨msp12_3, List.forall_mem_cons.mpr ⟨msp12_4, List.forall_mem_cons.mpr ⟨msp12_5, (fun _ h => by cases h)⟩⟩⟩⟩⟩⟩
def msT13 : List (Nat × xI × Nat) := [(42, iX8_isBlank, 1), (82, iX8_isLetter, 1), (85, iX8_isDigit, 1), (91, iX8_isKey, 1)]
theorem msp13_0 : xMS 13 42 iX8_isBlank 1 := ⟨kX8_isBlank, q330, Or.inl q329⟩
theorem msp13_1 : xMS 13 82 iX8_isLetter 1 := ⟨kX8_isLetter, q365, Or.inl q364⟩
theorem msp13_2 : xMS 13 85 iX8_isDigit 1 := ⟨kX8_isDigit, q368, Or.inl q367⟩
theorem msp13_3 : xMS 13 91 iX8_isKey 1 := ⟨kX8_isKey, q709, Or.inl q708⟩
theorem mso13 : ∀ e ∈ msT13, xMS 13 e.1 e.2.1 e.2.2 := List.forall_mem_cons.mpr ⟨msp13_0, List.forall_mem_cons.mpr ⟨msp13_1, List.forall_mem_cons.mpr ⟨msp13_2, List.forall_mem_cons.mpr ⟨msp13_3, (fun _ h => by cases h)⟩⟩⟩⟩
def msT14 : List (Nat × xI × Nat) := []
theorem mso14 : ∀ e ∈ msT14, xMS 14 e.1 e.2.1 e.2.2 := (fun _ h => by cases h)
def msT15 : List (Nat × xI × Nat) := []
theorem mso15 : ∀ e ∈ msT15, xMS 15 e.1 e.2.1 e.2.2 := (fun _ h => by cases h)
def msT16 : List (Nat × xI × Nat) := []
theorem mso16 : ∀ e ∈ msT16, xMS 16 e.1 e.2.1 e.2.2 := (fun _ h => by cases h)
def msT17 : List (Nat × xI × Nat) := []
theorem mso17 : ∀ e ∈ msT17, xMS 17 e.1 e.2.1 e.2.2 := (fun _ h => by cases h)
def msT18 : List (Nat × xI × Nat) := []
theorem mso18 : ∀ e ∈ msT18, xMS 18 e.1 e.2.1 e.2.2 := (fun _ h => by cases h)
def msT19 : List (Nat × xI × Nat) := [(7, iJ14_min, 2)]
theorem msp19_0 : xMS 19 7 iJ14_min 2 := ⟨kJ14_min, q443, Or.inl q1779⟩
theorem mso19 : ∀ e ∈ msT19, xMS 19 e.1 e.2.1 e.2.2 := List.forall_mem_cons.mpr ⟨msp19_0, (fun _ h => by cases h)⟩
def msT20 : List (Nat × xI × Nat) := [(7, iJ14_max, 2)]
theorem msp20_0 : xMS 20 7 iJ14_max 2 := ⟨kJ14_max, q425, Or.inl q1783⟩
theorem mso20 : ∀ e ∈ msT20, xMS 20 e.1 e.2.1 e.2.2 := List.forall_mem_cons.mpr ⟨msp20_0, (fun _ h => by cases h)⟩
def msT21 : List (Nat × xI × Nat) := []
theorem mso21 : ∀ e ∈ msT21, xMS 21 e.1 e.2.1 e.2.2 := (fun _ h => by cases h)
def msT22 : List (Nat × xI × Nat) := []
theorem mso22 : ∀ e ∈ msT22, xMS 22 e.1 e.2.1 e.2.2 := (fun _ h => by cases h)
def msT23 : List (Nat × xI × Nat) := [(34, iX1_held, 1), (60, iJ19_valueOf, 1), (134, iJ14_abs, 1)]
theorem msp23_0 : xMS 23 34 iX1_held 1 := ⟨kX1_held, q1791, Or.inr ⟨_, q1790⟩⟩
theorem msp23_1 : xMS 23 60 iJ19_valueOf 1 := ⟨kJ19_valueOf, q1577, Or.inl q2688⟩
theorem msp23_2 : xMS 23 134 iJ14_abs 1 := ⟨kJ14_abs, q1726, Or.inl q2352⟩
theorem mso23 : ∀ e ∈ msT23, xMS 23 e.1 e.2.1 e.2.2 := List.forall_mem_cons.mpr ⟨msp23_0, List.forall_mem_cons.mpr ⟨msp23_1, List.forall_mem_cons.mpr ⟨msp23_2, (fun _ h => by cases h)⟩⟩⟩
def msT24 : List (Nat × xI × Nat) := [(52, iX1_side, 6), (59, iJ19_signum, 1), (66, iX1_isBetween, 3), (76, iJ14_abs, 1), (81, iX1_divisor, 2), (88, iJ14_max, 2), (102, iJ19_valueOf, 1)]
theorem msp24_0 : xMS 24 52 iX1_side 6 := ⟨kX1_side, q1747, Or.inr ⟨_, q1746⟩⟩
theorem msp24_1 : xMS 24 59 iJ19_signum 1 := ⟨kJ19_signum, q1750, Or.inl q1749⟩
theorem msp24_2 : xMS 24 66 iX1_isBetween 3 := ⟨kX1_isBetween, q2242, Or.inr ⟨_, q2241⟩⟩
theorem msp24_3 : xMS 24 76 iJ14_abs 1 := ⟨kJ14_abs, q1726, Or.inl q2421⟩
theorem msp24_4 : xMS 24 81 iX1_divisor 2 := ⟨kX1_divisor, q2423, Or.inr ⟨_, q2422⟩⟩
theorem msp24_5 : xMS 24 88 iJ14_max 2 := ⟨kJ14_max, q425, Or.inl q2469⟩
theorem msp24_6 : xMS 24 102 iJ19_valueOf 1 := ⟨kJ19_valueOf, q1577, Or.inl q2444⟩
theorem mso24 : ∀ e ∈ msT24, xMS 24 e.1 e.2.1 e.2.2 := List.forall_mem_cons.mpr ⟨msp24_0, List.forall_mem_cons.mpr ⟨msp24_1, List.forall_mem_cons.mpr ⟨msp24_2, List.forall_mem_cons.mpr ⟨msp24_3, List.forall_mem_cons.mpr ⟨msp24_4, List.forall_mem_cons.mpr ⟨msp24_5, List.forall_mem_cons.mpr ⟨msp24_6, (fun _ h => by cases h)⟩⟩⟩⟩⟩⟩⟩
def msT25 : List (Nat × xI × Nat) := []
theorem mso25 : ∀ e ∈ msT25, xMS 25 e.1 e.2.1 e.2.2 := (fun _ h => by cases h)
def msT26 : List (Nat × xI × Nat) := []
theorem mso26 : ∀ e ∈ msT26, xMS 26 e.1 e.2.1 e.2.2 := (fun _ h => by cases h)
def msT27 : List (Nat × xI × Nat) := []
theorem mso27 : ∀ e ∈ msT27, xMS 27 e.1 e.2.1 e.2.2 := (fun _ h => by cases h)
def msT28 : List (Nat × xI × Nat) := []
theorem mso28 : ∀ e ∈ msT28, xMS 28 e.1 e.2.1 e.2.2 := (fun _ h => by cases h)
def msT29 : List (Nat × xI × Nat) := []
theorem mso29 : ∀ e ∈ msT29, xMS 29 e.1 e.2.1 e.2.2 := (fun _ h => by cases h)
def msT30 : List (Nat × xI × Nat) := []
theorem mso30 : ∀ e ∈ msT30, xMS 30 e.1 e.2.1 e.2.2 := (fun _ h => by cases h)
def msT31 : List (Nat × xI × Nat) := []
theorem mso31 : ∀ e ∈ msT31, xMS 31 e.1 e.2.1 e.2.2 := (fun _ h => by cases h)
def msT32 : List (Nat × xI × Nat) := [(25, iJ14_abs, 1)]
theorem msp32_0 : xMS 32 25 iJ14_abs 1 := ⟨kJ14_abs, q1726, Or.inl q1725⟩
theorem mso32 : ∀ e ∈ msT32, xMS 32 e.1 e.2.1 e.2.2 := List.forall_mem_cons.mpr ⟨msp32_0, (fun _ h => by cases h)⟩
def msT33 : List (Nat × xI × Nat) := [(79, iX0_feed, 7), (88, iX0_trim, 3), (100, iX0_count, 3), (103, iX0_point, 4), (107, iX0_shape, 4), (110, iX0_corner, 4), (113, iX0_lies, 4), (116, iX0_crosses, 4), (119, iX0_hull, 4), (122, iX0_hullCorner, 4), (125, iX0_nearest, 4), (128, iX0_enter, 4), (131, iX0_put, 5), (135, iX0_carry, 3), (142, iX0_undo, 2), (146, iX0_step, 4), (149, iX0_would, 3), (152, iX0_without, 3)]
theorem msp33_0 : xMS 33 79 iX0_feed 7 := ⟨kX0_feed, q2496, Or.inl q2495⟩
theorem msp33_1 : xMS 33 88 iX0_trim 3 := ⟨kX0_trim, q2526, Or.inl q2525⟩
theorem msp33_2 : xMS 33 100 iX0_count 3 := ⟨kX0_count, q2545, Or.inl q2544⟩
theorem msp33_3 : xMS 33 103 iX0_point 4 := ⟨kX0_point, q2568, Or.inl q2567⟩
theorem msp33_4 : xMS 33 107 iX0_shape 4 := ⟨kX0_shape, q2575, Or.inl q2574⟩
theorem msp33_5 : xMS 33 110 iX0_corner 4 := ⟨kX0_corner, q2587, Or.inl q2586⟩
theorem msp33_6 : xMS 33 113 iX0_lies 4 := ⟨kX0_lies, q2594, Or.inl q2593⟩
theorem msp33_7 : xMS 33 116 iX0_crosses 4 := ⟨kX0_crosses, q2602, Or.inl q2601⟩
theorem msp33_8 : xMS 33 119 iX0_hull 4 := ⟨kX0_hull, q2609, Or.inl q2608⟩
theorem msp33_9 : xMS 33 122 iX0_hullCorner 4 := ⟨kX0_hullCorner, q2616, Or.inl q2615⟩
theorem msp33_10 : xMS 33 125 iX0_nearest 4 := ⟨kX0_nearest, q2623, Or.inl q2622⟩
theorem msp33_11 : xMS 33 128 iX0_enter 4 := ⟨kX0_enter, q2631, Or.inl q2630⟩
theorem msp33_12 : xMS 33 131 iX0_put 5 := ⟨kX0_put, q2638, Or.inl q2637⟩
theorem msp33_13 : xMS 33 135 iX0_carry 3 := ⟨kX0_carry, q2646, Or.inl q2645⟩
theorem msp33_14 : xMS 33 142 iX0_undo 2 := ⟨kX0_undo, q2654, Or.inl q2653⟩
theorem msp33_15 : xMS 33 146 iX0_step 4 := ⟨kX0_step, q2667, Or.inl q2666⟩
theorem msp33_16 : xMS 33 149 iX0_would 3 := ⟨kX0_would, q2674, Or.inl q2673⟩
theorem msp33_17 : xMS 33 152 iX0_without 3 := ⟨kX0_without, q2707, Or.inl q2706⟩
theorem mso33 : ∀ e ∈ msT33, xMS 33 e.1 e.2.1 e.2.2 := List.forall_mem_cons.mpr ⟨msp33_0, List.forall_mem_cons.mpr ⟨msp33_1, List.forall_mem_cons.mpr ⟨msp33_2, List.forall_mem_cons.mpr ⟨msp33_3, List.forall_mem_cons.mpr ⟨msp33_4, List.forall_mem_cons.mpr ⟨msp33_5, List.forall_mem_cons.mpr ⟨msp33_6, List.forall_mem_cons.mpr ⟨msp33_7, List.forall_mem_cons.mpr ⟨msp33_8, List.forall_mem_cons.mpr ⟨msp33_9, List.forall_mem_cons.mpr ⟨msp33_10, List.forall_mem_cons.mpr ⟨msp33_11, List.forall_mem_cons.mpr ⟨msp33_12, List.forall_mem_cons.mpr ⟨msp33_13, List.forall_mem_cons.mpr ⟨msp33_14, List.forall_mem_cons.mpr ⟨msp33_15, List.forall_mem_cons.mpr ⟨msp33_16, List.forall_mem_cons.mpr ⟨msp33_17, (fun _ h => by cases h)⟩⟩⟩⟩⟩⟩⟩⟩⟩⟩⟩⟩⟩⟩⟩⟩⟩⟩
def msT34 : List (Nat × xI × Nat) := [(57, iJ14_min_2, 2), (63, iJ14_max_2, 2), (69, iX4_isIn, 3), (103, iJ14_abs, 1), (110, iX4_areApart, 2), (118, iJ14_min, 2), (120, iJ14_max, 2), (182, iX4_held, 1), (230, iX4_isSmall, 1), (233, iX4_isDigit, 1), (330, iX4_find, 3), (341, iX4_errorOfNew, 3), (347, iX4_isOfShape, 2), (415, iX4_divisor, 2), (418, iJ19_signum, 1)]
theorem msp34_0 : xMS 34 57 iJ14_min_2 2 := ⟨kJ14_min_2, q1796, Or.inl q3054⟩
theorem msp34_1 : xMS 34 63 iJ14_max_2 2 := ⟨kJ14_max_2, q1799, Or.inl q3055⟩
theorem msp34_2 : xMS 34 69 iX4_isIn 3 := ⟨kX4_isIn, q2867, Or.inl q2866⟩
theorem msp34_3 : xMS 34 103 iJ14_abs 1 := ⟨kJ14_abs, q1726, Or.inl q3027⟩
theorem msp34_4 : xMS 34 110 iX4_areApart 2 := ⟨kX4_areApart, q3045, Or.inl q3044⟩
theorem msp34_5 : xMS 34 118 iJ14_min 2 := ⟨kJ14_min, q443, Or.inl q3047⟩
theorem msp34_6 : xMS 34 120 iJ14_max 2 := ⟨kJ14_max, q425, Or.inl q3048⟩
theorem msp34_7 : xMS 34 182 iX4_held 1 := ⟨kX4_held, q3050, Or.inl q3049⟩
theorem msp34_8 : xMS 34 230 iX4_isSmall 1 := ⟨kX4_isSmall, q2890, Or.inl q2889⟩
theorem msp34_9 : xMS 34 233 iX4_isDigit 1 := ⟨kX4_isDigit, q2893, Or.inl q2892⟩
theorem msp34_10 : xMS 34 330 iX4_find 3 := ⟨kX4_find, q2981, Or.inl q2980⟩
theorem msp34_11 : xMS 34 341 iX4_errorOfNew 3 := ⟨kX4_errorOfNew, q2978, Or.inl q2977⟩
theorem msp34_12 : xMS 34 347 iX4_isOfShape 2 := ⟨kX4_isOfShape, q2985, Or.inl q2984⟩
theorem msp34_13 : xMS 34 415 iX4_divisor 2 := ⟨kX4_divisor, q3134, Or.inl q3133⟩
theorem msp34_14 : xMS 34 418 iJ19_signum 1 := ⟨kJ19_signum, q1750, Or.inl q3128⟩
theorem mso34 : ∀ e ∈ msT34, xMS 34 e.1 e.2.1 e.2.2 := List.forall_mem_cons.mpr ⟨msp34_0, List.forall_mem_cons.mpr ⟨msp34_1, List.forall_mem_cons.mpr ⟨msp34_2, List.forall_mem_cons.mpr ⟨msp34_3, List.forall_mem_cons.mpr ⟨msp34_4, List.forall_mem_cons.mpr ⟨msp34_5, List.forall_mem_cons.mpr ⟨msp34_6, List.forall_mem_cons.mpr ⟨msp34_7, List.forall_mem_cons.mpr ⟨msp34_8, List.forall_mem_cons.mpr ⟨msp34_9, List.forall_mem_cons.mpr ⟨msp34_10, List.forall_mem_cons.mpr ⟨msp34_11, List.forall_mem_cons.mpr ⟨msp34_12, List.forall_mem_cons.mpr ⟨msp34_13, List.forall_mem_cons.mpr ⟨msp34_14, (fun _ h => by cases h)⟩⟩⟩⟩⟩⟩⟩⟩⟩⟩⟩⟩⟩⟩⟩
def msT35 : List (Nat × xI × Nat) := []
theorem mso35 : ∀ e ∈ msT35, xMS 35 e.1 e.2.1 e.2.2 := (fun _ h => by cases h)
def msT36 : List (Nat × xI × Nat) := []
theorem mso36 : ∀ e ∈ msT36, xMS 36 e.1 e.2.1 e.2.2 := (fun _ h => by cases h)
def msT37 : List (Nat × xI × Nat) := [(26, iJ12_newBytesFor, 1), (87, iJ16_compareTo_2, 4), (93, iJ12_compareTo_2, 4), (94, iJ16_compareToUTF16_2, 4), (97, iJ12_compareToLatin1_2, 4), (108, iJ15_copyOf, 2), (114, iJ13_newLength, 3), (125, iJ16_inflate, 5), (191, iJ16_canEncode, 1), (197, iJ12_putCharSB, 3), (226, iJ12_putCharsAt, 6), (245, iJ19_stringSize, 1), (248, iJ19_getChars, 3), (251, iJ12_getChars, 4)]
theorem msp37_0 : xMS 37 26 iJ12_newBytesFor 1 := ⟨kJ12_newBytesFor, q386, Or.inl q385⟩
theorem msp37_1 : xMS 37 87 iJ16_compareTo_2 4 := ⟨kJ16_compareTo_2, q1334, Or.inl q1478⟩
theorem msp37_2 : xMS 37 93 iJ12_compareTo_2 4 := ⟨kJ12_compareTo_2, q1480, Or.inl q1479⟩
theorem msp37_3 : xMS 37 94 iJ16_compareToUTF16_2 4 := ⟨kJ16_compareToUTF16_2, q1489, Or.inl q1488⟩
theorem msp37_4 : xMS 37 97 iJ12_compareToLatin1_2 4 := ⟨kJ12_compareToLatin1_2, q1493, Or.inl q1492⟩
theorem msp37_5 : xMS 37 108 iJ15_copyOf 2 := ⟨kJ15_copyOf, q433, Or.inl q432⟩
theorem msp37_6 : xMS 37 114 iJ13_newLength 3 := ⟨kJ13_newLength, q422, Or.inl q421⟩
theorem msp37_7 : xMS 37 125 iJ16_inflate 5 := ⟨kJ16_inflate, q461, Or.inl q460⟩
theorem msp37_8 : xMS 37 191 iJ16_canEncode 1 := ⟨kJ16_canEncode, q454, Or.inl q453⟩
theorem msp37_9 : xMS 37 197 iJ12_putCharSB 3 := ⟨kJ12_putCharSB, q490, Or.inl q489⟩
theorem msp37_10 : xMS 37 226 iJ12_putCharsAt 6 := ⟨kJ12_putCharsAt, q629, Or.inl q628⟩
theorem msp37_11 : xMS 37 245 iJ19_stringSize 1 := ⟨kJ19_stringSize, q590, Or.inl q589⟩
theorem msp37_12 : xMS 37 248 iJ19_getChars 3 := ⟨kJ19_getChars, q593, Or.inl q592⟩
theorem msp37_13 : xMS 37 251 iJ12_getChars 4 := ⟨kJ12_getChars, q600, Or.inl q599⟩
theorem mso37 : ∀ e ∈ msT37, xMS 37 e.1 e.2.1 e.2.2 := List.forall_mem_cons.mpr ⟨msp37_0, List.forall_mem_cons.mpr ⟨msp37_1, List.forall_mem_cons.mpr ⟨msp37_2, List.forall_mem_cons.mpr ⟨msp37_3, List.forall_mem_cons.mpr ⟨msp37_4, List.forall_mem_cons.mpr ⟨msp37_5, List.forall_mem_cons.mpr ⟨msp37_6, List.forall_mem_cons.mpr ⟨msp37_7, List.forall_mem_cons.mpr ⟨msp37_8, List.forall_mem_cons.mpr ⟨msp37_9, List.forall_mem_cons.mpr ⟨msp37_10, List.forall_mem_cons.mpr ⟨msp37_11, List.forall_mem_cons.mpr ⟨msp37_12, List.forall_mem_cons.mpr ⟨msp37_13, (fun _ h => by cases h)⟩⟩⟩⟩⟩⟩⟩⟩⟩⟩⟩⟩⟩⟩
def msT38 : List (Nat × xI × Nat) := []
theorem mso38 : ∀ e ∈ msT38, xMS 38 e.1 e.2.1 e.2.2 := (fun _ h => by cases h)
def msT39 : List (Nat × xI × Nat) := []
theorem mso39 : ∀ e ∈ msT39, xMS 39 e.1 e.2.1 e.2.2 := (fun _ h => by cases h)
def msT40 : List (Nat × xI × Nat) := []
theorem mso40 : ∀ e ∈ msT40, xMS 40 e.1 e.2.1 e.2.2 := (fun _ h => by cases h)
def msT41 : List (Nat × xI × Nat) := []
theorem mso41 : ∀ e ∈ msT41, xMS 41 e.1 e.2.1 e.2.2 := (fun _ h => by cases h)
def msT42 : List (Nat × xI × Nat) := []
theorem mso42 : ∀ e ∈ msT42, xMS 42 e.1 e.2.1 e.2.2 := (fun _ h => by cases h)
def msT43 : List (Nat × xI × Nat) := []
theorem mso43 : ∀ e ∈ msT43, xMS 43 e.1 e.2.1 e.2.2 := (fun _ h => by cases h)
def msT44 : List (Nat × xI × Nat) := []
theorem mso44 : ∀ e ∈ msT44, xMS 44 e.1 e.2.1 e.2.2 := (fun _ h => by cases h)
def msT45 : List (Nat × xI × Nat) := [(208, iJ19_hashCode_2, 1), (259, iJ19_compare, 2)]
theorem msp45_0 : xMS 45 208 iJ19_hashCode_2 1 := ⟨kJ19_hashCode_2, q1076, Or.inl q1075⟩
theorem msp45_1 : xMS 45 259 iJ19_compare 2 := ⟨kJ19_compare, q1318, Or.inl q1317⟩
theorem mso45 : ∀ e ∈ msT45, xMS 45 e.1 e.2.1 e.2.2 := List.forall_mem_cons.mpr ⟨msp45_0, List.forall_mem_cons.mpr ⟨msp45_1, (fun _ h => by cases h)⟩⟩
def msT46 : List (Nat × xI × Nat) := [(308, iJ19_numberOfLeadingZeros, 1), (311, iJ19_numberOfTrailingZeros, 1)]
theorem msp46_0 : xMS 46 308 iJ19_numberOfLeadingZeros 1 := ⟨kJ19_numberOfLeadingZeros, q1408, Or.inl q1407⟩
theorem msp46_1 : xMS 46 311 iJ19_numberOfTrailingZeros 1 := ⟨kJ19_numberOfTrailingZeros, q1417, Or.inl q1416⟩
theorem mso46 : ∀ e ∈ msT46, xMS 46 e.1 e.2.1 e.2.2 := List.forall_mem_cons.mpr ⟨msp46_0, List.forall_mem_cons.mpr ⟨msp46_1, (fun _ h => by cases h)⟩⟩
def msT47 : List (Nat × xI × Nat) := []
theorem mso47 : ∀ e ∈ msT47, xMS 47 e.1 e.2.1 e.2.2 := (fun _ h => by cases h)
def msT48 : List (Nat × xI × Nat) := []
theorem mso48 : ∀ e ∈ msT48, xMS 48 e.1 e.2.1 e.2.2 := (fun _ h => by cases h)
def msT49 : List (Nat × xI × Nat) := []
theorem mso49 : ∀ e ∈ msT49, xMS 49 e.1 e.2.1 e.2.2 := (fun _ h => by cases h)
def msT50 : List (Nat × xI × Nat) := []
theorem mso50 : ∀ e ∈ msT50, xMS 50 e.1 e.2.1 e.2.2 := (fun _ h => by cases h)
def msT51 : List (Nat × xI × Nat) := [(47, iJ12_coderFromArrayLen, 2), (54, iJ15_copyOfRange, 3), (106, iJ16_inflate, 5), (495, iJ16_charAt, 2), (498, iJ12_charAt, 2), (541, iJ16_equals, 2), (586, iJ16_compareTo, 2), (590, iJ12_compareTo, 2), (591, iJ16_compareToUTF16, 2), (594, iJ12_compareToLatin1, 2), (628, iJ16_hashCode, 1), (632, iJ12_hashCode, 1), (637, iJ16_indexOf, 4), (640, iJ12_indexOf, 4), (1051, iJ12_compress, 3), (1059, iJ17_checkIndex, 3), (1062, iJ17_checkFromToIndex, 4), (1065, iJ17_checkFromIndexSize, 4)]
theorem msp51_0 : xMS 51 47 iJ12_coderFromArrayLen 2 := ⟨kJ12_coderFromArrayLen, q692, Or.inl q691⟩
theorem msp51_1 : xMS 51 54 iJ15_copyOfRange 3 := ⟨kJ15_copyOfRange, q529, Or.inl q528⟩
theorem msp51_2 : xMS 51 106 iJ16_inflate 5 := ⟨kJ16_inflate, q461, Or.inl q654⟩
theorem msp51_3 : xMS 51 495 iJ16_charAt 2 := ⟨kJ16_charAt, q1534, Or.inl q1533⟩
theorem msp51_4 : xMS 51 498 iJ12_charAt 2 := ⟨kJ12_charAt, q1538, Or.inl q1537⟩
theorem msp51_5 : xMS 51 541 iJ16_equals 2 := ⟨kJ16_equals, q719, Or.inl q718⟩
theorem msp51_6 : xMS 51 586 iJ16_compareTo 2 := ⟨kJ16_compareTo, q1331, Or.inl q1330⟩
theorem msp51_7 : xMS 51 590 iJ12_compareTo 2 := ⟨kJ12_compareTo, q1444, Or.inl q1443⟩
theorem msp51_8 : xMS 51 591 iJ16_compareToUTF16 2 := ⟨kJ16_compareToUTF16, q1450, Or.inl q1449⟩
theorem msp51_9 : xMS 51 594 iJ12_compareToLatin1 2 := ⟨kJ12_compareToLatin1, q1461, Or.inl q1460⟩
theorem msp51_10 : xMS 51 628 iJ16_hashCode 1 := ⟨kJ16_hashCode, q1082, Or.inl q1081⟩
theorem msp51_11 : xMS 51 632 iJ12_hashCode 1 := ⟨kJ12_hashCode, q1131, Or.inl q1130⟩
theorem msp51_12 : xMS 51 637 iJ16_indexOf 4 := ⟨kJ16_indexOf, q742, Or.inl q741⟩
theorem msp51_13 : xMS 51 640 iJ12_indexOf 4 := ⟨kJ12_indexOf, q753, Or.inl q752⟩
theorem msp51_14 : xMS 51 1051 iJ12_compress 3 := ⟨kJ12_compress, q682, Or.inl q681⟩
theorem msp51_15 : xMS 51 1059 iJ17_checkIndex 3 := ⟨kJ17_checkIndex, q499, Or.inl q498⟩
theorem msp51_16 : xMS 51 1062 iJ17_checkFromToIndex 4 := ⟨kJ17_checkFromToIndex, q609, Or.inl q608⟩
theorem msp51_17 : xMS 51 1065 iJ17_checkFromIndexSize 4 := ⟨kJ17_checkFromIndexSize, q478, Or.inl q477⟩
theorem mso51 : ∀ e ∈ msT51, xMS 51 e.1 e.2.1 e.2.2 := List.forall_mem_cons.mpr ⟨msp51_0, List.forall_mem_cons.mpr ⟨msp51_1, List.forall_mem_cons.mpr ⟨msp51_2, List.forall_mem_cons.mpr ⟨msp51_3, List.forall_mem_cons.mpr ⟨msp51_4, List.forall_mem_cons.mpr ⟨msp51_5, List.forall_mem_cons.mpr ⟨msp51_6, List.forall_mem_cons.mpr ⟨msp51_7, List.forall_mem_cons.mpr ⟨msp51_8, List.forall_mem_cons.mpr ⟨msp51_9, List.forall_mem_cons.mpr ⟨msp51_10, List.forall_mem_cons.mpr ⟨msp51_11, List.forall_mem_cons.mpr ⟨msp51_12, List.forall_mem_cons.mpr ⟨msp51_13, List.forall_mem_cons.mpr ⟨msp51_14, List.forall_mem_cons.mpr ⟨msp51_15, List.forall_mem_cons.mpr ⟨msp51_16, List.forall_mem_cons.mpr ⟨msp51_17, (fun _ h => by cases h)⟩⟩⟩⟩⟩⟩⟩⟩⟩⟩⟩⟩⟩⟩⟩⟩⟩⟩
def msT52 : List (Nat × xI × Nat) := []
theorem mso52 : ∀ e ∈ msT52, xMS 52 e.1 e.2.1 e.2.2 := (fun _ h => by cases h)
def msT53 : List (Nat × xI × Nat) := [(9, iJ11_checkIndex, 2), (34, iJ16_compareTo_2, 4), (38, iJ14_min, 2), (44, iJ13_mismatch, 3), (50, iJ16_getChar, 2), (54, iJ16_length, 1), (58, iJ12_length, 1), (59, iJ16_compareToUTF16Values, 4), (62, iJ11_checkOffset, 2), (65, iJ12_getChar, 2), (84, iJ13_vectorizedHashCode, 5), (88, iJ16_canEncode_2, 1), (92, iJ14_max, 2), (95, iJ16_indexOfChar, 4), (240, iJ12_inflate, 5)]
theorem msp53_0 : xMS 53 9 iJ11_checkIndex 2 := ⟨kJ11_checkIndex, q496, Or.inl q1536⟩
theorem msp53_1 : xMS 53 34 iJ16_compareTo_2 4 := ⟨kJ16_compareTo_2, q1334, Or.inl q1333⟩
theorem msp53_2 : xMS 53 38 iJ14_min 2 := ⟨kJ14_min, q443, Or.inl q748⟩
theorem msp53_3 : xMS 53 44 iJ13_mismatch 3 := ⟨kJ13_mismatch, q1337, Or.inl q1336⟩
theorem msp53_4 : xMS 53 50 iJ16_getChar 2 := ⟨kJ16_getChar, q1441, Or.inl q1440⟩
theorem msp53_5 : xMS 53 54 iJ16_length 1 := ⟨kJ16_length, q1453, Or.inl q1452⟩
theorem msp53_6 : xMS 53 58 iJ12_length 1 := ⟨kJ12_length, q470, Or.inl q1455⟩
theorem msp53_7 : xMS 53 59 iJ16_compareToUTF16Values 4 := ⟨kJ16_compareToUTF16Values, q1457, Or.inl q1456⟩
theorem msp53_8 : xMS 53 62 iJ11_checkOffset 2 := ⟨kJ11_checkOffset, q1486, Or.inl q1491⟩
theorem msp53_9 : xMS 53 65 iJ12_getChar 2 := ⟨kJ12_getChar, q688, Or.inl q1459⟩
theorem msp53_10 : xMS 53 84 iJ13_vectorizedHashCode 5 := ⟨kJ13_vectorizedHashCode, q1085, Or.inl q1084⟩
theorem msp53_11 : xMS 53 88 iJ16_canEncode_2 1 := ⟨kJ16_canEncode_2, q745, Or.inl q744⟩
theorem msp53_12 : xMS 53 92 iJ14_max 2 := ⟨kJ14_max, q425, Or.inl q747⟩
theorem msp53_13 : xMS 53 95 iJ16_indexOfChar 4 := ⟨kJ16_indexOfChar, q750, Or.inl q749⟩
theorem msp53_14 : xMS 53 240 iJ12_inflate 5 := ⟨kJ12_inflate, q464, Or.inl q463⟩
theorem mso53 : ∀ e ∈ msT53, xMS 53 e.1 e.2.1 e.2.2 := List.forall_mem_cons.mpr ⟨msp53_0, List.forall_mem_cons.mpr ⟨msp53_1, List.forall_mem_cons.mpr ⟨msp53_2, List.forall_mem_cons.mpr ⟨msp53_3, List.forall_mem_cons.mpr ⟨msp53_4, List.forall_mem_cons.mpr ⟨msp53_5, List.forall_mem_cons.mpr ⟨msp53_6, List.forall_mem_cons.mpr ⟨msp53_7, List.forall_mem_cons.mpr ⟨msp53_8, List.forall_mem_cons.mpr ⟨msp53_9, List.forall_mem_cons.mpr ⟨msp53_10, List.forall_mem_cons.mpr ⟨msp53_11, List.forall_mem_cons.mpr ⟨msp53_12, List.forall_mem_cons.mpr ⟨msp53_13, List.forall_mem_cons.mpr ⟨msp53_14, (fun _ h => by cases h)⟩⟩⟩⟩⟩⟩⟩⟩⟩⟩⟩⟩⟩⟩⟩
def msT54 : List (Nat × xI × Nat) := [(11, iJ12_newBytesLength, 1), (48, iJ12_length, 1), (67, iJ12_checkIndex, 2), (71, iJ12_getChar, 2), (96, iJ12_checkBoundsBeginEnd, 3), (111, iJ12_putChar, 3), (123, iJ12_compress_2, 5), (126, iJ15_copyOfRange, 3), (157, iJ20_highSurrogate, 1), (161, iJ20_lowSurrogate, 1), (164, iJ20_isValidCodePoint, 1), (173, iJ12_checkBoundsOffCount, 3), (176, iJ12_compareValues, 4), (180, iJ12_checkOffset, 2), (183, iJ14_min, 2), (189, iJ16_compareToUTF16, 2), (193, iJ16_compareToUTF16_2, 4), (220, iJ13_vectorizedHashCode, 5), (224, iJ14_max, 2), (228, iJ12_indexOfChar, 4), (232, iJ12_indexOfSupplementary, 4), (241, iJ11_checkBoundsBeginEnd, 3), (244, iJ12_indexOfCharUnsafe, 4), (393, iJ12_getChars_2, 3), (414, iJ11_checkIndex, 2), (417, iJ11_checkOffset, 2), (419, iJ11_checkBoundsOffCount, 3)]
theorem msp54_0 : xMS 54 11 iJ12_newBytesLength 1 := ⟨kJ12_newBytesLength, q389, Or.inl q388⟩
theorem msp54_1 : xMS 54 48 iJ12_length 1 := ⟨kJ12_length, q470, Or.inl q469⟩
theorem msp54_2 : xMS 54 67 iJ12_checkIndex 2 := ⟨kJ12_checkIndex, q493, Or.inl q492⟩
theorem msp54_3 : xMS 54 71 iJ12_getChar 2 := ⟨kJ12_getChar, q688, Or.inl q687⟩
theorem msp54_4 : xMS 54 96 iJ12_checkBoundsBeginEnd 3 := ⟨kJ12_checkBoundsBeginEnd, q603, Or.inl q602⟩
theorem msp54_5 : xMS 54 111 iJ12_putChar 3 := ⟨kJ12_putChar, q481, Or.inl q480⟩
theorem msp54_6 : xMS 54 123 iJ12_compress_2 5 := ⟨kJ12_compress_2, q685, Or.inl q684⟩
theorem msp54_7 : xMS 54 126 iJ15_copyOfRange 3 := ⟨kJ15_copyOfRange, q529, Or.inl q690⟩
theorem msp54_8 : xMS 54 157 iJ20_highSurrogate 1 := ⟨kJ20_highSurrogate, q771, Or.inl q770⟩
theorem msp54_9 : xMS 54 161 iJ20_lowSurrogate 1 := ⟨kJ20_lowSurrogate, q775, Or.inl q774⟩
theorem msp54_10 : xMS 54 164 iJ20_isValidCodePoint 1 := ⟨kJ20_isValidCodePoint, q768, Or.inl q767⟩
theorem msp54_11 : xMS 54 173 iJ12_checkBoundsOffCount 3 := ⟨kJ12_checkBoundsOffCount, q467, Or.inl q466⟩
theorem msp54_12 : xMS 54 176 iJ12_compareValues 4 := ⟨kJ12_compareValues, q1447, Or.inl q1446⟩
theorem msp54_13 : xMS 54 180 iJ12_checkOffset 2 := ⟨kJ12_checkOffset, q1483, Or.inl q1482⟩
theorem msp54_14 : xMS 54 183 iJ14_min 2 := ⟨kJ14_min, q443, Or.inl q756⟩
theorem msp54_15 : xMS 54 189 iJ16_compareToUTF16 2 := ⟨kJ16_compareToUTF16, q1450, Or.inl q1463⟩
theorem msp54_16 : xMS 54 193 iJ16_compareToUTF16_2 4 := ⟨kJ16_compareToUTF16_2, q1489, Or.inl q1495⟩
theorem msp54_17 : xMS 54 220 iJ13_vectorizedHashCode 5 := ⟨kJ13_vectorizedHashCode, q1085, Or.inl q1133⟩
theorem msp54_18 : xMS 54 224 iJ14_max 2 := ⟨kJ14_max, q425, Or.inl q755⟩
theorem msp54_19 : xMS 54 228 iJ12_indexOfChar 4 := ⟨kJ12_indexOfChar, q759, Or.inl q758⟩
theorem msp54_20 : xMS 54 232 iJ12_indexOfSupplementary 4 := ⟨kJ12_indexOfSupplementary, q765, Or.inl q764⟩
theorem msp54_21 : xMS 54 241 iJ11_checkBoundsBeginEnd 3 := ⟨kJ11_checkBoundsBeginEnd, q606, Or.inl q605⟩
theorem msp54_22 : xMS 54 244 iJ12_indexOfCharUnsafe 4 := ⟨kJ12_indexOfCharUnsafe, q762, Or.inl q761⟩
theorem msp54_23 : xMS 54 393 iJ12_getChars_2 3 := ⟨kJ12_getChars_2, q612, Or.inl q611⟩
theorem msp54_24 : xMS 54 414 iJ11_checkIndex 2 := ⟨kJ11_checkIndex, q496, Or.inl q495⟩
theorem msp54_25 : xMS 54 417 iJ11_checkOffset 2 := ⟨kJ11_checkOffset, q1486, Or.inl q1485⟩
theorem msp54_26 : xMS 54 419 iJ11_checkBoundsOffCount 3 := ⟨kJ11_checkBoundsOffCount, q473, Or.inl q472⟩
theorem mso54 : ∀ e ∈ msT54, xMS 54 e.1 e.2.1 e.2.2 := List.forall_mem_cons.mpr ⟨msp54_0, List.forall_mem_cons.mpr ⟨msp54_1, List.forall_mem_cons.mpr ⟨msp54_2, List.forall_mem_cons.mpr ⟨msp54_3, List.forall_mem_cons.mpr ⟨msp54_4, List.forall_mem_cons.mpr ⟨msp54_5, List.forall_mem_cons.mpr ⟨msp54_6, List.forall_mem_cons.mpr ⟨msp54_7, List.forall_mem_cons.mpr ⟨msp54_8, List.forall_mem_cons.mpr ⟨msp54_9, List.forall_mem_cons.mpr ⟨msp54_10, List.forall_mem_cons.mpr ⟨msp54_11, List.forall_mem_cons.mpr ⟨msp54_12, List.forall_mem_cons.mpr ⟨msp54_13, List.forall_mem_cons.mpr ⟨msp54_14, List.forall_mem_cons.mpr ⟨msp54_15, List.forall_mem_cons.mpr ⟨msp54_16, List.forall_mem_cons.mpr ⟨msp54_17, List.forall_mem_cons.mpr ⟨msp54_18, List.forall_mem_cons.mpr ⟨msp54_19, List.forall_mem_cons.mpr ⟨msp54_20, List.forall_mem_cons.mpr ⟨msp54_21, List.forall_mem_cons.mpr ⟨msp54_22, List.forall_mem_cons.mpr ⟨msp54_23, List.forall_mem_cons.mpr ⟨msp54_24, List.forall_mem_cons.mpr ⟨msp54_25, List.forall_mem_cons.mpr ⟨msp54_26, (fun _ h => by cases h)⟩⟩⟩⟩⟩⟩⟩⟩⟩⟩⟩⟩⟩⟩⟩⟩⟩⟩⟩⟩⟩⟩⟩⟩⟩⟩⟩
def msT55 : List (Nat × xI × Nat) := [(185, iJ12_getChar, 2)]
theorem msp55_0 : xMS 55 185 iJ12_getChar 2 := ⟨kJ12_getChar, q688, Or.inl q1106⟩
theorem mso55 : ∀ e ∈ msT55, xMS 55 e.1 e.2.1 e.2.2 := List.forall_mem_cons.mpr ⟨msp55_0, (fun _ h => by cases h)⟩
def msT56 : List (Nat × xI × Nat) := []
theorem mso56 : ∀ e ∈ msT56, xMS 56 e.1 e.2.1 e.2.2 := (fun _ h => by cases h)
def msT57 : List (Nat × xI × Nat) := []
theorem mso57 : ∀ e ∈ msT57, xMS 57 e.1 e.2.1 e.2.2 := (fun _ h => by cases h)
def msT58 : List (Nat × xI × Nat) := []
theorem mso58 : ∀ e ∈ msT58, xMS 58 e.1 e.2.1 e.2.2 := (fun _ h => by cases h)
def msT59 : List (Nat × xI × Nat) := []
theorem mso59 : ∀ e ∈ msT59, xMS 59 e.1 e.2.1 e.2.2 := (fun _ h => by cases h)
def msT60 : List (Nat × xI × Nat) := [(66, iJ15_copyOf_2, 2), (73, iJ13_newLength, 3), (79, iJ14_max, 2), (118, iJ23_checkIndex, 2)]
theorem msp60_0 : xMS 60 66 iJ15_copyOf_2 2 := ⟨kJ15_copyOf_2, q798, Or.inl q797⟩
theorem msp60_1 : xMS 60 73 iJ13_newLength 3 := ⟨kJ13_newLength, q422, Or.inl q796⟩
theorem msp60_2 : xMS 60 79 iJ14_max 2 := ⟨kJ14_max, q425, Or.inl q861⟩
theorem msp60_3 : xMS 60 118 iJ23_checkIndex 2 := ⟨kJ23_checkIndex, q948, Or.inl q947⟩
theorem mso60 : ∀ e ∈ msT60, xMS 60 e.1 e.2.1 e.2.2 := List.forall_mem_cons.mpr ⟨msp60_0, List.forall_mem_cons.mpr ⟨msp60_1, List.forall_mem_cons.mpr ⟨msp60_2, List.forall_mem_cons.mpr ⟨msp60_3, (fun _ h => by cases h)⟩⟩⟩⟩
def msT61 : List (Nat × xI × Nat) := []
theorem mso61 : ∀ e ∈ msT61, xMS 61 e.1 e.2.1 e.2.2 := (fun _ h => by cases h)
def msT62 : List (Nat × xI × Nat) := [(300, iJ15_copyOf_3, 3), (304, iJ14_min, 2), (339, iJ15_copyOfRangeByte, 3), (343, iJ15_checkLength, 2)]
theorem msp62_0 : xMS 62 300 iJ15_copyOf_3 3 := ⟨kJ15_copyOf_3, q856, Or.inl q855⟩
theorem msp62_1 : xMS 62 304 iJ14_min 2 := ⟨kJ14_min, q443, Or.inl q442⟩
theorem msp62_2 : xMS 62 339 iJ15_copyOfRangeByte 3 := ⟨kJ15_copyOfRangeByte, q532, Or.inl q531⟩
theorem msp62_3 : xMS 62 343 iJ15_checkLength 2 := ⟨kJ15_checkLength, q535, Or.inl q534⟩
theorem mso62 : ∀ e ∈ msT62, xMS 62 e.1 e.2.1 e.2.2 := List.forall_mem_cons.mpr ⟨msp62_0, List.forall_mem_cons.mpr ⟨msp62_1, List.forall_mem_cons.mpr ⟨msp62_2, List.forall_mem_cons.mpr ⟨msp62_3, (fun _ h => by cases h)⟩⟩⟩⟩
def msT63 : List (Nat × xI × Nat) := [(149, iJ22_hash, 1)]
theorem msp63_0 : xMS 63 149 iJ22_hash 1 := ⟨kJ22_hash, q1021, Or.inl q1020⟩
theorem mso63 : ∀ e ∈ msT63, xMS 63 e.1 e.2.1 e.2.2 := List.forall_mem_cons.mpr ⟨msp63_0, (fun _ h => by cases h)⟩
def msT64 : List (Nat × xI × Nat) := []
theorem mso64 : ∀ e ∈ msT64, xMS 64 e.1 e.2.1 e.2.2 := (fun _ h => by cases h)
def msT65 : List (Nat × xI × Nat) := [(55, iJ22_comparableClassFor, 1), (59, iJ22_compareComparables, 3), (100, iJ29_balanceInsertion, 2), (104, iJ29_moveRootToFront, 2), (130, iJ29_rotateLeft, 2), (133, iJ29_rotateRight, 2)]
theorem msp65_0 : xMS 65 55 iJ22_comparableClassFor 1 := ⟨kJ22_comparableClassFor, q1212, Or.inl q1211⟩
theorem msp65_1 : xMS 65 59 iJ22_compareComparables 3 := ⟨kJ22_compareComparables, q1218, Or.inl q1217⟩
theorem msp65_2 : xMS 65 100 iJ29_balanceInsertion 2 := ⟨kJ29_balanceInsertion, q1870, Or.inl q1869⟩
theorem msp65_3 : xMS 65 104 iJ29_moveRootToFront 2 := ⟨kJ29_moveRootToFront, q1879, Or.inl q1878⟩
theorem msp65_4 : xMS 65 130 iJ29_rotateLeft 2 := ⟨kJ29_rotateLeft, q1873, Or.inl q1872⟩
theorem msp65_5 : xMS 65 133 iJ29_rotateRight 2 := ⟨kJ29_rotateRight, q1876, Or.inl q1875⟩
theorem mso65 : ∀ e ∈ msT65, xMS 65 e.1 e.2.1 e.2.2 := List.forall_mem_cons.mpr ⟨msp65_0, List.forall_mem_cons.mpr ⟨msp65_1, List.forall_mem_cons.mpr ⟨msp65_2, List.forall_mem_cons.mpr ⟨msp65_3, List.forall_mem_cons.mpr ⟨msp65_4, List.forall_mem_cons.mpr ⟨msp65_5, (fun _ h => by cases h)⟩⟩⟩⟩⟩⟩
def msT66 : List (Nat × xI × Nat) := []
theorem mso66 : ∀ e ∈ msT66, xMS 66 e.1 e.2.1 e.2.2 := (fun _ h => by cases h)
def msT67 : List (Nat × xI × Nat) := [(105, iJ17_checkIndex, 3)]
theorem msp67_0 : xMS 67 105 iJ17_checkIndex 3 := ⟨kJ17_checkIndex, q499, Or.inl q950⟩
theorem mso67 : ∀ e ∈ msT67, xMS 67 e.1 e.2.1 e.2.2 := List.forall_mem_cons.mpr ⟨msp67_0, (fun _ h => by cases h)⟩
def msT68 : List (Nat × xI × Nat) := [(17, iJ23_requireNonNull, 1)]
theorem msp68_0 : xMS 68 17 iJ23_requireNonNull 1 := ⟨kJ23_requireNonNull, q1992, Or.inl q2037⟩
theorem mso68 : ∀ e ∈ msT68, xMS 68 e.1 e.2.1 e.2.2 := List.forall_mem_cons.mpr ⟨msp68_0, (fun _ h => by cases h)⟩
def msT69 : List (Nat × xI × Nat) := [(698, iJ24_makeLong, 2), (704, iJ24_makeLong_2, 4), (709, iJ24_makeLong_3, 8), (719, iJ24_makeInt, 2), (723, iJ24_makeInt_2, 4), (781, iJ24_toUnsignedLong_3, 1), (784, iJ24_pickPos, 2), (788, iJ24_toUnsignedLong_2, 1), (791, iJ24_toUnsignedLong, 1), (792, iJ24_toUnsignedInt, 1), (796, iJ24_toUnsignedInt_2, 1)]
theorem msp69_0 : xMS 69 698 iJ24_makeLong 2 := ⟨kJ24_makeLong, q1366, Or.inl q1365⟩
theorem msp69_1 : xMS 69 704 iJ24_makeLong_2 4 := ⟨kJ24_makeLong_2, q1384, Or.inl q1383⟩
theorem msp69_2 : xMS 69 709 iJ24_makeLong_3 8 := ⟨kJ24_makeLong_3, q1396, Or.inl q1395⟩
theorem msp69_3 : xMS 69 719 iJ24_makeInt 2 := ⟨kJ24_makeInt, q1426, Or.inl q1425⟩
theorem msp69_4 : xMS 69 723 iJ24_makeInt_2 4 := ⟨kJ24_makeInt_2, q1433, Or.inl q1432⟩
theorem msp69_5 : xMS 69 781 iJ24_toUnsignedLong_3 1 := ⟨kJ24_toUnsignedLong_3, q1399, Or.inl q1398⟩
theorem msp69_6 : xMS 69 784 iJ24_pickPos 2 := ⟨kJ24_pickPos, q1373, Or.inl q1372⟩
theorem msp69_7 : xMS 69 788 iJ24_toUnsignedLong_2 1 := ⟨kJ24_toUnsignedLong_2, q1387, Or.inl q1386⟩
theorem msp69_8 : xMS 69 791 iJ24_toUnsignedLong 1 := ⟨kJ24_toUnsignedLong, q1369, Or.inl q1368⟩
theorem msp69_9 : xMS 69 792 iJ24_toUnsignedInt 1 := ⟨kJ24_toUnsignedInt, q1429, Or.inl q1428⟩
theorem msp69_10 : xMS 69 796 iJ24_toUnsignedInt_2 1 := ⟨kJ24_toUnsignedInt_2, q1436, Or.inl q1435⟩
theorem mso69 : ∀ e ∈ msT69, xMS 69 e.1 e.2.1 e.2.2 := List.forall_mem_cons.mpr ⟨msp69_0, List.forall_mem_cons.mpr ⟨msp69_1, List.forall_mem_cons.mpr ⟨msp69_2, List.forall_mem_cons.mpr ⟨msp69_3, List.forall_mem_cons.mpr ⟨msp69_4, List.forall_mem_cons.mpr ⟨msp69_5, List.forall_mem_cons.mpr ⟨msp69_6, List.forall_mem_cons.mpr ⟨msp69_7, List.forall_mem_cons.mpr ⟨msp69_8, List.forall_mem_cons.mpr ⟨msp69_9, List.forall_mem_cons.mpr ⟨msp69_10, (fun _ h => by cases h)⟩⟩⟩⟩⟩⟩⟩⟩⟩⟩⟩
def msT70 : List (Nat × xI × Nat) := [(11, iJ19_numberOfTrailingZeros, 1), (40, iJ25_numberOfLeadingZeros, 1), (49, iJ25_numberOfTrailingZeros, 1), (58, iJ19_numberOfLeadingZeros, 1), (62, iJ13_signedHashCode, 4), (66, iJ13_utf16hashCode, 4), (71, iJ13_hashCode, 4), (75, iJ13_hashCode_2, 4), (79, iJ13_hashCode_3, 4), (84, iJ13_hashCode_4, 4), (122, iJ13_vectorizedMismatch, 6), (194, iJ14_max, 2), (201, iJ13_hugeLength, 2)]
theorem msp70_0 : xMS 70 11 iJ19_numberOfTrailingZeros 1 := ⟨kJ19_numberOfTrailingZeros, q1417, Or.inl q1439⟩
theorem msp70_1 : xMS 70 40 iJ25_numberOfLeadingZeros 1 := ⟨kJ25_numberOfLeadingZeros, q1405, Or.inl q1404⟩
theorem msp70_2 : xMS 70 49 iJ25_numberOfTrailingZeros 1 := ⟨kJ25_numberOfTrailingZeros, q1414, Or.inl q1413⟩
theorem msp70_3 : xMS 70 58 iJ19_numberOfLeadingZeros 1 := ⟨kJ19_numberOfLeadingZeros, q1408, Or.inl q1438⟩
theorem msp70_4 : xMS 70 62 iJ13_signedHashCode 4 := ⟨kJ13_signedHashCode, q1089, Or.inl q1088⟩
theorem msp70_5 : xMS 70 66 iJ13_utf16hashCode 4 := ⟨kJ13_utf16hashCode, q1092, Or.inl q1091⟩
theorem msp70_6 : xMS 70 71 iJ13_hashCode 4 := ⟨kJ13_hashCode, q1109, Or.inl q1108⟩
theorem msp70_7 : xMS 70 75 iJ13_hashCode_2 4 := ⟨kJ13_hashCode_2, q1112, Or.inl q1111⟩
theorem msp70_8 : xMS 70 79 iJ13_hashCode_3 4 := ⟨kJ13_hashCode_3, q1116, Or.inl q1115⟩
theorem msp70_9 : xMS 70 84 iJ13_hashCode_4 4 := ⟨kJ13_hashCode_4, q1120, Or.inl q1119⟩
theorem msp70_10 : xMS 70 122 iJ13_vectorizedMismatch 6 := ⟨kJ13_vectorizedMismatch, q1344, Or.inl q1343⟩
theorem msp70_11 : xMS 70 194 iJ14_max 2 := ⟨kJ14_max, q425, Or.inl q424⟩
theorem msp70_12 : xMS 70 201 iJ13_hugeLength 2 := ⟨kJ13_hugeLength, q429, Or.inl q428⟩
theorem mso70 : ∀ e ∈ msT70, xMS 70 e.1 e.2.1 e.2.2 := List.forall_mem_cons.mpr ⟨msp70_0, List.forall_mem_cons.mpr ⟨msp70_1, List.forall_mem_cons.mpr ⟨msp70_2, List.forall_mem_cons.mpr ⟨msp70_3, List.forall_mem_cons.mpr ⟨msp70_4, List.forall_mem_cons.mpr ⟨msp70_5, List.forall_mem_cons.mpr ⟨msp70_6, List.forall_mem_cons.mpr ⟨msp70_7, List.forall_mem_cons.mpr ⟨msp70_8, List.forall_mem_cons.mpr ⟨msp70_9, List.forall_mem_cons.mpr ⟨msp70_10, List.forall_mem_cons.mpr ⟨msp70_11, List.forall_mem_cons.mpr ⟨msp70_12, (fun _ h => by cases h)⟩⟩⟩⟩⟩⟩⟩⟩⟩⟩⟩⟩⟩
def msT71 : List (Nat × xI × Nat) := []
theorem mso71 : ∀ e ∈ msT71, xMS 71 e.1 e.2.1 e.2.2 := (fun _ h => by cases h)
def msL (oc : Nat) : List (Nat × xI × Nat) := match oc with
  | 0 => msT0
  | 1 => msT1
  | 2 => msT2
  | 3 => msT3
  | 4 => msT4
  | 5 => msT5
  | 6 => msT6
  | 7 => msT7
  | 8 => msT8
  | 9 => msT9
  | 10 => msT10
  | 11 => msT11
  | 12 => msT12
  | 13 => msT13
  | 14 => msT14
  | 15 => msT15
  | 16 => msT16
  | 17 => msT17
  | 18 => msT18
  | 19 => msT19
  | 20 => msT20
  | 21 => msT21
  | 22 => msT22
  | 23 => msT23
  | 24 => msT24
  | 25 => msT25
  | 26 => msT26
  | 27 => msT27
  | 28 => msT28
  | 29 => msT29
  | 30 => msT30
  | 31 => msT31
  | 32 => msT32
  | 33 => msT33
  | 34 => msT34
  | 35 => msT35
  | 36 => msT36
  | 37 => msT37
  | 38 => msT38
  | 39 => msT39
  | 40 => msT40
  | 41 => msT41
  | 42 => msT42
  | 43 => msT43
  | 44 => msT44
  | 45 => msT45
  | 46 => msT46
  | 47 => msT47
  | 48 => msT48
  | 49 => msT49
  | 50 => msT50
  | 51 => msT51
  | 52 => msT52
  | 53 => msT53
  | 54 => msT54
  | 55 => msT55
  | 56 => msT56
  | 57 => msT57
  | 58 => msT58
  | 59 => msT59
  | 60 => msT60
  | 61 => msT61
  | 62 => msT62
  | 63 => msT63
  | 64 => msT64
  | 65 => msT65
  | 66 => msT66
  | 67 => msT67
  | 68 => msT68
  | 69 => msT69
  | 70 => msT70
  | 71 => msT71
  | _ => []
theorem msL_ok : ∀ oc, ∀ e ∈ msL oc, xMS oc e.1 e.2.1 e.2.2 := by
  intro oc
  unfold msL
  split
  · exact mso0
  · exact mso1
  · exact mso2
  · exact mso3
  · exact mso4
  · exact mso5
  · exact mso6
  · exact mso7
  · exact mso8
  · exact mso9
  · exact mso10
  · exact mso11
  · exact mso12
  · exact mso13
  · exact mso14
  · exact mso15
  · exact mso16
  · exact mso17
  · exact mso18
  · exact mso19
  · exact mso20
  · exact mso21
  · exact mso22
  · exact mso23
  · exact mso24
  · exact mso25
  · exact mso26
  · exact mso27
  · exact mso28
  · exact mso29
  · exact mso30
  · exact mso31
  · exact mso32
  · exact mso33
  · exact mso34
  · exact mso35
  · exact mso36
  · exact mso37
  · exact mso38
  · exact mso39
  · exact mso40
  · exact mso41
  · exact mso42
  · exact mso43
  · exact mso44
  · exact mso45
  · exact mso46
  · exact mso47
  · exact mso48
  · exact mso49
  · exact mso50
  · exact mso51
  · exact mso52
  · exact mso53
  · exact mso54
  · exact mso55
  · exact mso56
  · exact mso57
  · exact mso58
  · exact mso59
  · exact mso60
  · exact mso61
  · exact mso62
  · exact mso63
  · exact mso64
  · exact mso65
  · exact mso66
  · exact mso67
  · exact mso68
  · exact mso69
  · exact mso70
  · exact mso71
  · intro e h; cases h
def xMP (oc idx : Nat) (I : xI) (n : Nat) : Prop := xMk I n ∧ ((iY I).name = "<init>" ∧ iR I = none ∧ iT I = []) ∧ Cond.instanceMethod (iY I) ∈ lw_all ∧ (Cond.methodLink (ocN oc) idx (iY I) ∈ lw_all ∨ ∃ host, Cond.methodLinkNest (ocN oc) idx (iY I) host ∈ lw_tbl)
def mpT0 : List (Nat × xI × Nat) := [(3, iJ7_init_2, 0), (9, iJ6_init, 0), (12, iJ30_init, 0), (54, iJ33_init, 0), (59, iX2_init, 0), (70, iX3_init, 0), (95, iX8_init, 1), (102, iX7_init, 1)]
theorem mpp0_0 : xMP 0 3 iJ7_init_2 0 := ⟨kJ7_init_2, ⟨rfl, rfl, rfl⟩, q2541, Or.inl q2540⟩
theorem mpp0_1 : xMP 0 9 iJ6_init 0 := ⟨kJ6_init, ⟨rfl, rfl, rfl⟩, q2516, Or.inl q2515⟩
theorem mpp0_2 : xMP 0 12 iJ30_init 0 := ⟨kJ30_init, ⟨rfl, rfl, rfl⟩, q2377, Or.inl q2376⟩
theorem mpp0_3 : xMP 0 54 iJ33_init 0 := ⟨kJ33_init, ⟨rfl, rfl, rfl⟩, q183, Or.inl q182⟩
theorem mpp0_4 : xMP 0 59 iX2_init 0 := ⟨kX2_init, ⟨rfl, rfl, rfl⟩, q188, Or.inr ⟨_, q187⟩⟩
theorem mpp0_5 : xMP 0 70 iX3_init 0 := ⟨kX3_init, ⟨rfl, rfl, rfl⟩, q204, Or.inr ⟨_, q203⟩⟩
theorem mpp0_6 : xMP 0 95 iX8_init 1 := ⟨kX8_init, ⟨rfl, rfl, rfl⟩, q309, Or.inl q308⟩
theorem mpp0_7 : xMP 0 102 iX7_init 1 := ⟨kX7_init, ⟨rfl, rfl, rfl⟩, q866, Or.inl q865⟩
theorem mpo0 : ∀ e ∈ mpT0, xMP 0 e.1 e.2.1 e.2.2 := List.forall_mem_cons.mpr ⟨mpp0_0, List.forall_mem_cons.mpr ⟨mpp0_1, List.forall_mem_cons.mpr ⟨mpp0_2, List.forall_mem_cons.mpr ⟨mpp0_3, List.forall_mem_cons.mpr ⟨mpp0_4, List.forall_mem_cons.mpr ⟨mpp0_5, List.forall_mem_cons.mpr ⟨mpp0_6, List.forall_mem_cons.mpr ⟨mpp0_7, (fun _ h => by cases h)⟩⟩⟩⟩⟩⟩⟩⟩
def mpT1 : List (Nat × xI × Nat) := [(1, iX11_init, 0)]
theorem mpp1_0 : xMP 1 1 iX11_init 0 := ⟨kX11_init, ⟨rfl, rfl, rfl⟩, q1544, Or.inr ⟨_, q1628⟩⟩
theorem mpo1 : ∀ e ∈ mpT1, xMP 1 e.1 e.2.1 e.2.2 := List.forall_mem_cons.mpr ⟨mpp1_0, (fun _ h => by cases h)⟩
def mpT2 : List (Nat × xI × Nat) := [(1, iJ33_init, 0)]
theorem mpp2_0 : xMP 2 1 iJ33_init 0 := ⟨kJ33_init, ⟨rfl, rfl, rfl⟩, q183, Or.inl q2105⟩
theorem mpo2 : ∀ e ∈ mpT2, xMP 2 e.1 e.2.1 e.2.2 := List.forall_mem_cons.mpr ⟨mpp2_0, (fun _ h => by cases h)⟩
def mpT3 : List (Nat × xI × Nat) := [(1, iX11_init, 0)]
theorem mpp3_0 : xMP 3 1 iX11_init 0 := ⟨kX11_init, ⟨rfl, rfl, rfl⟩, q1544, Or.inr ⟨_, q1605⟩⟩
theorem mpo3 : ∀ e ∈ mpT3, xMP 3 e.1 e.2.1 e.2.2 := List.forall_mem_cons.mpr ⟨mpp3_0, (fun _ h => by cases h)⟩
def mpT4 : List (Nat × xI × Nat) := []
theorem mpo4 : ∀ e ∈ mpT4, xMP 4 e.1 e.2.1 e.2.2 := (fun _ h => by cases h)
def mpT5 : List (Nat × xI × Nat) := []
theorem mpo5 : ∀ e ∈ mpT5, xMP 5 e.1 e.2.1 e.2.2 := (fun _ h => by cases h)
def mpT6 : List (Nat × xI × Nat) := []
theorem mpo6 : ∀ e ∈ mpT6, xMP 6 e.1 e.2.1 e.2.2 := (fun _ h => by cases h)
def mpT7 : List (Nat × xI × Nat) := [(1, iJ33_init, 0)]
theorem mpp7_0 : xMP 7 1 iJ33_init 0 := ⟨kJ33_init, ⟨rfl, rfl, rfl⟩, q183, Or.inl q2075⟩
theorem mpo7 : ∀ e ∈ mpT7, xMP 7 e.1 e.2.1 e.2.2 := List.forall_mem_cons.mpr ⟨mpp7_0, (fun _ h => by cases h)⟩
def mpT8 : List (Nat × xI × Nat) := [(1, iJ4_init_2, 0)]
theorem mpp8_0 : xMP 8 1 iJ4_init_2 0 := ⟨kJ4_init_2, ⟨rfl, rfl, rfl⟩, q999, Or.inl q998⟩
theorem mpo8 : ∀ e ∈ mpT8, xMP 8 e.1 e.2.1 e.2.2 := List.forall_mem_cons.mpr ⟨mpp8_0, (fun _ h => by cases h)⟩
def mpT9 : List (Nat × xI × Nat) := [(1, iJ33_init, 0)]
theorem mpp9_0 : xMP 9 1 iJ33_init 0 := ⟨kJ33_init, ⟨rfl, rfl, rfl⟩, q183, Or.inl q2088⟩
theorem mpo9 : ∀ e ∈ mpT9, xMP 9 e.1 e.2.1 e.2.2 := List.forall_mem_cons.mpr ⟨mpp9_0, (fun _ h => by cases h)⟩
def mpT10 : List (Nat × xI × Nat) := [(1, iX11_init, 0)]
theorem mpp10_0 : xMP 10 1 iX11_init 0 := ⟨kX11_init, ⟨rfl, rfl, rfl⟩, q1544, Or.inr ⟨_, q1662⟩⟩
theorem mpo10 : ∀ e ∈ mpT10, xMP 10 e.1 e.2.1 e.2.2 := List.forall_mem_cons.mpr ⟨mpp10_0, (fun _ h => by cases h)⟩
def mpT11 : List (Nat × xI × Nat) := [(1, iX11_init, 0)]
theorem mpp11_0 : xMP 11 1 iX11_init 0 := ⟨kX11_init, ⟨rfl, rfl, rfl⟩, q1544, Or.inr ⟨_, q1543⟩⟩
theorem mpo11 : ∀ e ∈ mpT11, xMP 11 e.1 e.2.1 e.2.2 := List.forall_mem_cons.mpr ⟨mpp11_0, (fun _ h => by cases h)⟩
def mpT12 : List (Nat × xI × Nat) := [(3, iJ33_init, 0), (11, iX3_init, 0), (20, iJ22_init, 0), (51, iX10_init, 2), (183, iJ2_init, 0), (199, iX17_init, 2), (258, iX18_init, 6), (263, iX19_init, 1), (286, iX20_init, 1), (300, iX21_init, 2), (318, iX22_init, 3), (339, iX16_init, 3), (366, iX12_init, 1), (373, iX13_init, 2), (392, iX14_init, 2), (397, iX15_init, 1)]
theorem mpp12_0 : xMP 12 3 iJ33_init 0 := ⟨kJ33_init, ⟨rfl, rfl, rfl⟩, q183, Or.inl q868⟩
theorem mpp12_1 : xMP 12 11 iX3_init 0 := ⟨kX3_init, ⟨rfl, rfl, rfl⟩, q204, Or.inr ⟨_, q870⟩⟩
theorem mpp12_2 : xMP 12 20 iJ22_init 0 := ⟨kJ22_init, ⟨rfl, rfl, rfl⟩, q874, Or.inl q873⟩
theorem mpp12_3 : xMP 12 51 iX10_init 2 := ⟨kX10_init, ⟨rfl, rfl, rfl⟩, q996, Or.inl q995⟩
theorem mpp12_4 : xMP 12 183 iJ2_init 0 := ⟨kJ2_init, ⟨rfl, rfl, rfl⟩, q210, Or.inl q1952⟩
theorem mpp12_5 : xMP 12 199 iX17_init 2 := ⟨kX17_init, ⟨rfl, rfl, rfl⟩, q1995, Or.inl q1994⟩
theorem mpp12_6 : xMP 12 258 iX18_init 6 := ⟨kX18_init, ⟨rfl, rfl, rfl⟩, q2129, Or.inl q2128⟩
theorem mpp12_7 : xMP 12 263 iX19_init 1 := ⟨kX19_init, ⟨rfl, rfl, rfl⟩, q2048, Or.inl q2047⟩
theorem mpp12_8 : xMP 12 286 iX20_init 1 := ⟨kX20_init, ⟨rfl, rfl, rfl⟩, q2073, Or.inl q2072⟩
theorem mpp12_9 : xMP 12 300 iX21_init 2 := ⟨kX21_init, ⟨rfl, rfl, rfl⟩, q2086, Or.inl q2085⟩
theorem mpp12_10 : xMP 12 318 iX22_init 3 := ⟨kX22_init, ⟨rfl, rfl, rfl⟩, q2103, Or.inl q2102⟩
theorem mpp12_11 : xMP 12 339 iX16_init 3 := ⟨kX16_init, ⟨rfl, rfl, rfl⟩, q1660, Or.inl q1659⟩
theorem mpp12_12 : xMP 12 366 iX12_init 1 := ⟨kX12_init, ⟨rfl, rfl, rfl⟩, q1541, Or.inl q1540⟩
theorem mpp12_13 : xMP 12 373 iX13_init 2 := ⟨kX13_init, ⟨rfl, rfl, rfl⟩, q1603, Or.inl q1602⟩
theorem mpp12_14 : xMP 12 392 iX14_init 2 := ⟨kX14_init, ⟨rfl, rfl, rfl⟩, q1626, Or.inl q1625⟩
theorem mpp12_15 : xMP 12 397 iX15_init 1 := ⟨kX15_init, ⟨rfl, rfl, rfl⟩, q1644, Or.inl q1643⟩
theorem mpo12 : ∀ e ∈ mpT12, xMP 12 e.1 e.2.1 e.2.2 := List.forall_mem_cons.mpr ⟨mpp12_0, List.forall_mem_cons.mpr ⟨mpp12_1, List.forall_mem_cons.mpr ⟨mpp12_2, List.forall_mem_cons.mpr ⟨mpp12_3, List.forall_mem_cons.mpr ⟨mpp12_4, List.forall_mem_cons.mpr ⟨mpp12_5, List.forall_mem_cons.mpr ⟨mpp12_6, List.forall_mem_cons.mpr ⟨mpp12_7, List.forall_mem_cons.mpr ⟨mpp12_8, List.forall_mem_cons.mpr ⟨mpp12_9, List.forall_mem_cons.mpr ⟨mpp12_10, List.forall_mem_cons.mpr ⟨mpp12_11, List.forall_mem_cons.mpr ⟨mpp12_12, List.forall_mem_cons.mpr ⟨mpp12_13, List.forall_mem_cons.mpr ⟨mpp12_14, List.forall_mem_cons.mpr ⟨mpp12_15, (fun _ h => by cases h)⟩⟩⟩⟩⟩⟩⟩⟩⟩⟩⟩⟩⟩⟩⟩⟩
def mpT13 : List (Nat × xI × Nat) := [(3, iJ33_init, 0), (11, iJ2_init, 0), (77, iX9_init, 3)]
theorem mpp13_0 : xMP 13 3 iJ33_init 0 := ⟨kJ33_init, ⟨rfl, rfl, rfl⟩, q183, Or.inl q311⟩
theorem mpp13_1 : xMP 13 11 iJ2_init 0 := ⟨kJ2_init, ⟨rfl, rfl, rfl⟩, q210, Or.inl q313⟩
theorem mpp13_2 : xMP 13 77 iX9_init 3 := ⟨kX9_init, ⟨rfl, rfl, rfl⟩, q346, Or.inl q345⟩
theorem mpo13 : ∀ e ∈ mpT13, xMP 13 e.1 e.2.1 e.2.2 := List.forall_mem_cons.mpr ⟨mpp13_0, List.forall_mem_cons.mpr ⟨mpp13_1, List.forall_mem_cons.mpr ⟨mpp13_2, (fun _ h => by cases h)⟩⟩⟩
def mpT14 : List (Nat × xI × Nat) := [(1, iJ33_init, 0), (9, iJ2_init, 0)]
theorem mpp14_0 : xMP 14 1 iJ33_init 0 := ⟨kJ33_init, ⟨rfl, rfl, rfl⟩, q183, Or.inl q2050⟩
theorem mpp14_1 : xMP 14 9 iJ2_init 0 := ⟨kJ2_init, ⟨rfl, rfl, rfl⟩, q210, Or.inl q2052⟩
theorem mpo14 : ∀ e ∈ mpT14, xMP 14 e.1 e.2.1 e.2.2 := List.forall_mem_cons.mpr ⟨mpp14_0, List.forall_mem_cons.mpr ⟨mpp14_1, (fun _ h => by cases h)⟩⟩
def mpT15 : List (Nat × xI × Nat) := []
theorem mpo15 : ∀ e ∈ mpT15, xMP 15 e.1 e.2.1 e.2.2 := (fun _ h => by cases h)
def mpT16 : List (Nat × xI × Nat) := []
theorem mpo16 : ∀ e ∈ mpT16, xMP 16 e.1 e.2.1 e.2.2 := (fun _ h => by cases h)
def mpT17 : List (Nat × xI × Nat) := []
theorem mpo17 : ∀ e ∈ mpT17, xMP 17 e.1 e.2.1 e.2.2 := (fun _ h => by cases h)
def mpT18 : List (Nat × xI × Nat) := []
theorem mpo18 : ∀ e ∈ mpT18, xMP 18 e.1 e.2.1 e.2.2 := (fun _ h => by cases h)
def mpT19 : List (Nat × xI × Nat) := []
theorem mpo19 : ∀ e ∈ mpT19, xMP 19 e.1 e.2.1 e.2.2 := (fun _ h => by cases h)
def mpT20 : List (Nat × xI × Nat) := []
theorem mpo20 : ∀ e ∈ mpT20, xMP 20 e.1 e.2.1 e.2.2 := (fun _ h => by cases h)
def mpT21 : List (Nat × xI × Nat) := [(1, iJ33_init, 0)]
theorem mpp21_0 : xMP 21 1 iJ33_init 0 := ⟨kJ33_init, ⟨rfl, rfl, rfl⟩, q183, Or.inl q2131⟩
theorem mpo21 : ∀ e ∈ mpT21, xMP 21 e.1 e.2.1 e.2.2 := List.forall_mem_cons.mpr ⟨mpp21_0, (fun _ h => by cases h)⟩
def mpT22 : List (Nat × xI × Nat) := [(1, iJ33_init, 0)]
theorem mpp22_0 : xMP 22 1 iJ33_init 0 := ⟨kJ33_init, ⟨rfl, rfl, rfl⟩, q183, Or.inl q1546⟩
theorem mpo22 : ∀ e ∈ mpT22, xMP 22 e.1 e.2.1 e.2.2 := List.forall_mem_cons.mpr ⟨mpp22_0, (fun _ h => by cases h)⟩
def mpT23 : List (Nat × xI × Nat) := [(3, iJ33_init, 0), (20, iJ2_init, 0), (70, iX17_init, 2)]
theorem mpp23_0 : xMP 23 3 iJ33_init 0 := ⟨kJ33_init, ⟨rfl, rfl, rfl⟩, q183, Or.inl q206⟩
theorem mpp23_1 : xMP 23 20 iJ2_init 0 := ⟨kJ2_init, ⟨rfl, rfl, rfl⟩, q210, Or.inl q209⟩
theorem mpp23_2 : xMP 23 70 iX17_init 2 := ⟨kX17_init, ⟨rfl, rfl, rfl⟩, q1995, Or.inl q2689⟩
theorem mpo23 : ∀ e ∈ mpT23, xMP 23 e.1 e.2.1 e.2.2 := List.forall_mem_cons.mpr ⟨mpp23_0, List.forall_mem_cons.mpr ⟨mpp23_1, List.forall_mem_cons.mpr ⟨mpp23_2, (fun _ h => by cases h)⟩⟩⟩
def mpT24 : List (Nat × xI × Nat) := [(9, iJ33_init, 0), (97, iJ2_init, 0)]
theorem mpp24_0 : xMP 24 9 iJ33_init 0 := ⟨kJ33_init, ⟨rfl, rfl, rfl⟩, q183, Or.inl q1997⟩
theorem mpp24_1 : xMP 24 97 iJ2_init 0 := ⟨kJ2_init, ⟨rfl, rfl, rfl⟩, q210, Or.inl q2442⟩
theorem mpo24 : ∀ e ∈ mpT24, xMP 24 e.1 e.2.1 e.2.2 := List.forall_mem_cons.mpr ⟨mpp24_0, List.forall_mem_cons.mpr ⟨mpp24_1, (fun _ h => by cases h)⟩⟩
def mpT25 : List (Nat × xI × Nat) := [(3, iJ33_init, 0), (21, iJ10_init, 0)]
theorem mpp25_0 : xMP 25 3 iJ33_init 0 := ⟨kJ33_init, ⟨rfl, rfl, rfl⟩, q183, Or.inl q190⟩
theorem mpp25_1 : xMP 25 21 iJ10_init 0 := ⟨kJ10_init, ⟨rfl, rfl, rfl⟩, q377, Or.inl q376⟩
theorem mpo25 : ∀ e ∈ mpT25, xMP 25 e.1 e.2.1 e.2.2 := List.forall_mem_cons.mpr ⟨mpp25_0, List.forall_mem_cons.mpr ⟨mpp25_1, (fun _ h => by cases h)⟩⟩
def mpT26 : List (Nat × xI × Nat) := [(3, iX24_init, 0)]
theorem mpp26_0 : xMP 26 3 iX24_init 0 := ⟨kX24_init, ⟨rfl, rfl, rfl⟩, q2124, Or.inl q2123⟩
theorem mpo26 : ∀ e ∈ mpT26, xMP 26 e.1 e.2.1 e.2.2 := List.forall_mem_cons.mpr ⟨mpp26_0, (fun _ h => by cases h)⟩
def mpT27 : List (Nat × xI × Nat) := [(1, iJ33_init, 0)]
theorem mpp27_0 : xMP 27 1 iJ33_init 0 := ⟨kJ33_init, ⟨rfl, rfl, rfl⟩, q183, Or.inl q2126⟩
theorem mpo27 : ∀ e ∈ mpT27, xMP 27 e.1 e.2.1 e.2.2 := List.forall_mem_cons.mpr ⟨mpp27_0, (fun _ h => by cases h)⟩
def mpT28 : List (Nat × xI × Nat) := [(1, iJ33_init, 0)]
theorem mpp28_0 : xMP 28 1 iJ33_init 0 := ⟨kJ33_init, ⟨rfl, rfl, rfl⟩, q183, Or.inl q348⟩
theorem mpo28 : ∀ e ∈ mpT28, xMP 28 e.1 e.2.1 e.2.2 := List.forall_mem_cons.mpr ⟨mpp28_0, (fun _ h => by cases h)⟩
def mpT29 : List (Nat × xI × Nat) := [(1, iX11_init, 0)]
theorem mpp29_0 : xMP 29 1 iX11_init 0 := ⟨kX11_init, ⟨rfl, rfl, rfl⟩, q1544, Or.inr ⟨_, q1646⟩⟩
theorem mpo29 : ∀ e ∈ mpT29, xMP 29 e.1 e.2.1 e.2.2 := List.forall_mem_cons.mpr ⟨mpp29_0, (fun _ h => by cases h)⟩
def mpT30 : List (Nat × xI × Nat) := []
theorem mpo30 : ∀ e ∈ mpT30, xMP 30 e.1 e.2.1 e.2.2 := (fun _ h => by cases h)
def mpT31 : List (Nat × xI × Nat) := []
theorem mpo31 : ∀ e ∈ mpT31, xMP 31 e.1 e.2.1 e.2.2 := (fun _ h => by cases h)
def mpT32 : List (Nat × xI × Nat) := []
theorem mpo32 : ∀ e ∈ mpT32, xMP 32 e.1 e.2.1 e.2.2 := (fun _ h => by cases h)
def mpT33 : List (Nat × xI × Nat) := [(75, iX1_init, 0), (78, iX4_init, 0)]
theorem mpp33_0 : xMP 33 75 iX1_init 0 := ⟨kX1_init, ⟨rfl, rfl, rfl⟩, q180, Or.inl q179⟩
theorem mpp33_1 : xMP 33 78 iX4_init 0 := ⟨kX4_init, ⟨rfl, rfl, rfl⟩, q2716, Or.inl q2715⟩
theorem mpo33 : ∀ e ∈ mpT33, xMP 33 e.1 e.2.1 e.2.2 := List.forall_mem_cons.mpr ⟨mpp33_0, List.forall_mem_cons.mpr ⟨mpp33_1, (fun _ h => by cases h)⟩⟩
def mpT34 : List (Nat × xI × Nat) := [(1, iJ33_init, 0), (19, iX5_init, 0), (26, iX6_init, 0), (317, iJ10_init, 0)]
theorem mpp34_0 : xMP 34 1 iJ33_init 0 := ⟨kJ33_init, ⟨rfl, rfl, rfl⟩, q183, Or.inl q2718⟩
theorem mpp34_1 : xMP 34 19 iX5_init 0 := ⟨kX5_init, ⟨rfl, rfl, rfl⟩, q2722, Or.inr ⟨_, q2721⟩⟩
theorem mpp34_2 : xMP 34 26 iX6_init 0 := ⟨kX6_init, ⟨rfl, rfl, rfl⟩, q2779, Or.inr ⟨_, q2778⟩⟩
theorem mpp34_3 : xMP 34 317 iJ10_init 0 := ⟨kJ10_init, ⟨rfl, rfl, rfl⟩, q377, Or.inl q2974⟩
theorem mpo34 : ∀ e ∈ mpT34, xMP 34 e.1 e.2.1 e.2.2 := List.forall_mem_cons.mpr ⟨mpp34_0, List.forall_mem_cons.mpr ⟨mpp34_1, List.forall_mem_cons.mpr ⟨mpp34_2, List.forall_mem_cons.mpr ⟨mpp34_3, (fun _ h => by cases h)⟩⟩⟩⟩
def mpT35 : List (Nat × xI × Nat) := [(3, iJ33_init, 0)]
theorem mpp35_0 : xMP 35 3 iJ33_init 0 := ⟨kJ33_init, ⟨rfl, rfl, rfl⟩, q183, Or.inl q2781⟩
theorem mpo35 : ∀ e ∈ mpT35, xMP 35 e.1 e.2.1 e.2.2 := List.forall_mem_cons.mpr ⟨mpp35_0, (fun _ h => by cases h)⟩
def mpT36 : List (Nat × xI × Nat) := [(3, iJ33_init, 0)]
theorem mpp36_0 : xMP 36 3 iJ33_init 0 := ⟨kJ33_init, ⟨rfl, rfl, rfl⟩, q183, Or.inl q2724⟩
theorem mpo36 : ∀ e ∈ mpT36, xMP 36 e.1 e.2.1 e.2.2 := List.forall_mem_cons.mpr ⟨mpp36_0, (fun _ h => by cases h)⟩
def mpT37 : List (Nat × xI × Nat) := [(3, iJ33_init, 0)]
theorem mpp37_0 : xMP 37 3 iJ33_init 0 := ⟨kJ33_init, ⟨rfl, rfl, rfl⟩, q183, Or.inl q382⟩
theorem mpo37 : ∀ e ∈ mpT37, xMP 37 e.1 e.2.1 e.2.2 := List.forall_mem_cons.mpr ⟨mpp37_0, (fun _ h => by cases h)⟩
def mpT38 : List (Nat × xI × Nat) := [(7, iJ30_init_2, 1)]
theorem mpp38_0 : xMP 38 7 iJ30_init_2 1 := ⟨kJ30_init_2, ⟨rfl, rfl, rfl⟩, q2552, Or.inl q2551⟩
theorem mpo38 : ∀ e ∈ mpT38, xMP 38 e.1 e.2.1 e.2.2 := List.forall_mem_cons.mpr ⟨mpp38_0, (fun _ h => by cases h)⟩
def mpT39 : List (Nat × xI × Nat) := []
theorem mpo39 : ∀ e ∈ mpT39, xMP 39 e.1 e.2.1 e.2.2 := (fun _ h => by cases h)
def mpT40 : List (Nat × xI × Nat) := []
theorem mpo40 : ∀ e ∈ mpT40, xMP 40 e.1 e.2.1 e.2.2 := (fun _ h => by cases h)
def mpT41 : List (Nat × xI × Nat) := [(1, iJ3_init, 0), (7, iJ3_init_2, 1)]
theorem mpp41_0 : xMP 41 1 iJ3_init 0 := ⟨kJ3_init, ⟨rfl, rfl, rfl⟩, q560, Or.inl q1001⟩
theorem mpp41_1 : xMP 41 7 iJ3_init_2 1 := ⟨kJ3_init_2, ⟨rfl, rfl, rfl⟩, q666, Or.inl q665⟩
theorem mpo41 : ∀ e ∈ mpT41, xMP 41 e.1 e.2.1 e.2.2 := List.forall_mem_cons.mpr ⟨mpp41_0, List.forall_mem_cons.mpr ⟨mpp41_1, (fun _ h => by cases h)⟩⟩
def mpT42 : List (Nat × xI × Nat) := [(1, iJ5_init_2, 0), (7, iJ5_init, 1)]
theorem mpp42_0 : xMP 42 1 iJ5_init_2 0 := ⟨kJ5_init_2, ⟨rfl, rfl, rfl⟩, q2380, Or.inl q2543⟩
theorem mpp42_1 : xMP 42 7 iJ5_init 1 := ⟨kJ5_init, ⟨rfl, rfl, rfl⟩, q660, Or.inl q659⟩
theorem mpo42 : ∀ e ∈ mpT42, xMP 42 e.1 e.2.1 e.2.2 := List.forall_mem_cons.mpr ⟨mpp42_0, List.forall_mem_cons.mpr ⟨mpp42_1, (fun _ h => by cases h)⟩⟩
def mpT43 : List (Nat × xI × Nat) := [(1, iJ5_init_2, 0)]
theorem mpp43_0 : xMP 43 1 iJ5_init_2 0 := ⟨kJ5_init_2, ⟨rfl, rfl, rfl⟩, q2380, Or.inl q2518⟩
theorem mpo43 : ∀ e ∈ mpT43, xMP 43 e.1 e.2.1 e.2.2 := List.forall_mem_cons.mpr ⟨mpp43_0, (fun _ h => by cases h)⟩
def mpT44 : List (Nat × xI × Nat) := [(1, iJ5_init_2, 0), (7, iJ5_init, 1)]
theorem mpp44_0 : xMP 44 1 iJ5_init_2 0 := ⟨kJ5_init_2, ⟨rfl, rfl, rfl⟩, q2380, Or.inl q2379⟩
theorem mpp44_1 : xMP 44 7 iJ5_init 1 := ⟨kJ5_init, ⟨rfl, rfl, rfl⟩, q660, Or.inl q2554⟩
theorem mpo44 : ∀ e ∈ mpT44, xMP 44 e.1 e.2.1 e.2.2 := List.forall_mem_cons.mpr ⟨mpp44_0, List.forall_mem_cons.mpr ⟨mpp44_1, (fun _ h => by cases h)⟩⟩
def mpT45 : List (Nat × xI × Nat) := [(199, iJ19_init, 1), (202, iJ18_init, 0)]
theorem mpp45_0 : xMP 45 199 iJ19_init 1 := ⟨kJ19_init, ⟨rfl, rfl, rfl⟩, q1585, Or.inl q1584⟩
theorem mpp45_1 : xMP 45 202 iJ18_init 0 := ⟨kJ18_init, ⟨rfl, rfl, rfl⟩, q1588, Or.inl q1587⟩
theorem mpo45 : ∀ e ∈ mpT45, xMP 45 e.1 e.2.1 e.2.2 := List.forall_mem_cons.mpr ⟨mpp45_0, List.forall_mem_cons.mpr ⟨mpp45_1, (fun _ h => by cases h)⟩⟩
def mpT46 : List (Nat × xI × Nat) := []
theorem mpo46 : ∀ e ∈ mpT46, xMP 46 e.1 e.2.1 e.2.2 := (fun _ h => by cases h)
def mpT47 : List (Nat × xI × Nat) := []
theorem mpo47 : ∀ e ∈ mpT47, xMP 47 e.1 e.2.1 e.2.2 := (fun _ h => by cases h)
def mpT48 : List (Nat × xI × Nat) := [(1, iJ33_init, 0)]
theorem mpp48_0 : xMP 48 1 iJ33_init 0 := ⟨kJ33_init, ⟨rfl, rfl, rfl⟩, q183, Or.inl q1590⟩
theorem mpo48 : ∀ e ∈ mpT48, xMP 48 e.1 e.2.1 e.2.2 := List.forall_mem_cons.mpr ⟨mpp48_0, (fun _ h => by cases h)⟩
def mpT49 : List (Nat × xI × Nat) := []
theorem mpo49 : ∀ e ∈ mpT49, xMP 49 e.1 e.2.1 e.2.2 := (fun _ h => by cases h)
def mpT50 : List (Nat × xI × Nat) := [(1, iJ4_init_2, 0), (7, iJ4_init, 1)]
theorem mpp50_0 : xMP 50 1 iJ4_init_2 0 := ⟨kJ4_init_2, ⟨rfl, rfl, rfl⟩, q999, Or.inl q2382⟩
theorem mpp50_1 : xMP 50 7 iJ4_init 1 := ⟨kJ4_init, ⟨rfl, rfl, rfl⟩, q663, Or.inl q662⟩
theorem mpo50 : ∀ e ∈ mpT50, xMP 50 e.1 e.2.1 e.2.2 := List.forall_mem_cons.mpr ⟨mpp50_0, List.forall_mem_cons.mpr ⟨mpp50_1, (fun _ h => by cases h)⟩⟩
def mpT51 : List (Nat × xI × Nat) := [(1, iJ33_init, 0), (489, iJ11_init_2, 2)]
theorem mpp51_0 : xMP 51 1 iJ33_init 0 := ⟨kJ33_init, ⟨rfl, rfl, rfl⟩, q183, Or.inl q513⟩
theorem mpp51_1 : xMP 51 489 iJ11_init_2 2 := ⟨kJ11_init_2, ⟨rfl, rfl, rfl⟩, q511, Or.inl q510⟩
theorem mpo51 : ∀ e ∈ mpT51, xMP 51 e.1 e.2.1 e.2.2 := List.forall_mem_cons.mpr ⟨mpp51_0, List.forall_mem_cons.mpr ⟨mpp51_1, (fun _ h => by cases h)⟩⟩
def mpT52 : List (Nat × xI × Nat) := [(1, iJ9_init, 1), (137, iJ11_init, 1)]
theorem mpp52_0 : xMP 52 1 iJ9_init 1 := ⟨kJ9_init, ⟨rfl, rfl, rfl⟩, q380, Or.inl q379⟩
theorem mpp52_1 : xMP 52 137 iJ11_init 1 := ⟨kJ11_init, ⟨rfl, rfl, rfl⟩, q508, Or.inl q507⟩
theorem mpo52 : ∀ e ∈ mpT52, xMP 52 e.1 e.2.1 e.2.2 := List.forall_mem_cons.mpr ⟨mpp52_0, List.forall_mem_cons.mpr ⟨mpp52_1, (fun _ h => by cases h)⟩⟩
def mpT53 : List (Nat × xI × Nat) := []
theorem mpo53 : ∀ e ∈ mpT53, xMP 53 e.1 e.2.1 e.2.2 := (fun _ h => by cases h)
def mpT54 : List (Nat × xI × Nat) := []
theorem mpo54 : ∀ e ∈ mpT54, xMP 54 e.1 e.2.1 e.2.2 := (fun _ h => by cases h)
def mpT55 : List (Nat × xI × Nat) := []
theorem mpo55 : ∀ e ∈ mpT55, xMP 55 e.1 e.2.1 e.2.2 := (fun _ h => by cases h)
def mpT56 : List (Nat × xI × Nat) := [(1, iJ33_init, 0)]
theorem mpp56_0 : xMP 56 1 iJ33_init 0 := ⟨kJ33_init, ⟨rfl, rfl, rfl⟩, q183, Or.inl q562⟩
theorem mpo56 : ∀ e ∈ mpT56, xMP 56 e.1 e.2.1 e.2.2 := List.forall_mem_cons.mpr ⟨mpp56_0, (fun _ h => by cases h)⟩
def mpT57 : List (Nat × xI × Nat) := [(1, iJ33_init, 0)]
theorem mpp57_0 : xMP 57 1 iJ33_init 0 := ⟨kJ33_init, ⟨rfl, rfl, rfl⟩, q183, Or.inl q218⟩
theorem mpo57 : ∀ e ∈ mpT57, xMP 57 e.1 e.2.1 e.2.2 := List.forall_mem_cons.mpr ⟨mpp57_0, (fun _ h => by cases h)⟩
def mpT58 : List (Nat × xI × Nat) := [(1, iJ0_init, 0)]
theorem mpp58_0 : xMP 58 1 iJ0_init 0 := ⟨kJ0_init, ⟨rfl, rfl, rfl⟩, q216, Or.inl q215⟩
theorem mpo58 : ∀ e ∈ mpT58, xMP 58 e.1 e.2.1 e.2.2 := List.forall_mem_cons.mpr ⟨mpp58_0, (fun _ h => by cases h)⟩
def mpT59 : List (Nat × xI × Nat) := [(1, iJ33_init, 0)]
theorem mpp59_0 : xMP 59 1 iJ33_init 0 := ⟨kJ33_init, ⟨rfl, rfl, rfl⟩, q183, Or.inl q879⟩
theorem mpo59 : ∀ e ∈ mpT59, xMP 59 e.1 e.2.1 e.2.2 := List.forall_mem_cons.mpr ⟨mpp59_0, (fun _ h => by cases h)⟩
def mpT60 : List (Nat × xI × Nat) := [(1, iJ1_init, 0), (269, iJ32_init, 1)]
theorem mpp60_0 : xMP 60 1 iJ1_init 0 := ⟨kJ1_init, ⟨rfl, rfl, rfl⟩, q213, Or.inl q212⟩
theorem mpp60_1 : xMP 60 269 iJ32_init 1 := ⟨kJ32_init, ⟨rfl, rfl, rfl⟩, q2311, Or.inl q2310⟩
theorem mpo60 : ∀ e ∈ mpT60, xMP 60 e.1 e.2.1 e.2.2 := List.forall_mem_cons.mpr ⟨mpp60_0, List.forall_mem_cons.mpr ⟨mpp60_1, (fun _ h => by cases h)⟩⟩
def mpT61 : List (Nat × xI × Nat) := [(7, iJ33_init, 0)]
theorem mpp61_0 : xMP 61 7 iJ33_init 0 := ⟨kJ33_init, ⟨rfl, rfl, rfl⟩, q183, Or.inl q2313⟩
theorem mpo61 : ∀ e ∈ mpT61, xMP 61 e.1 e.2.1 e.2.2 := List.forall_mem_cons.mpr ⟨mpp61_0, (fun _ h => by cases h)⟩
def mpT62 : List (Nat × xI × Nat) := [(47, iJ10_init, 0), (65, iJ7_init, 1)]
theorem mpp62_0 : xMP 62 47 iJ10_init 0 := ⟨kJ10_init, ⟨rfl, rfl, rfl⟩, q377, Or.inl q581⟩
theorem mpp62_1 : xMP 62 65 iJ7_init 1 := ⟨kJ7_init, ⟨rfl, rfl, rfl⟩, q657, Or.inl q656⟩
theorem mpo62 : ∀ e ∈ mpT62, xMP 62 e.1 e.2.1 e.2.2 := List.forall_mem_cons.mpr ⟨mpp62_0, List.forall_mem_cons.mpr ⟨mpp62_1, (fun _ h => by cases h)⟩⟩
def mpT63 : List (Nat × xI × Nat) := [(43, iJ21_init, 0), (375, iJ27_init, 4), (378, iJ29_init, 4)]
theorem mpp63_0 : xMP 63 43 iJ21_init 0 := ⟨kJ21_init, ⟨rfl, rfl, rfl⟩, q877, Or.inl q876⟩
theorem mpp63_1 : xMP 63 375 iJ27_init 4 := ⟨kJ27_init, ⟨rfl, rfl, rfl⟩, q1837, Or.inl q1836⟩
theorem mpp63_2 : xMP 63 378 iJ29_init 4 := ⟨kJ29_init, ⟨rfl, rfl, rfl⟩, q1897, Or.inl q1896⟩
theorem mpo63 : ∀ e ∈ mpT63, xMP 63 e.1 e.2.1 e.2.2 := List.forall_mem_cons.mpr ⟨mpp63_0, List.forall_mem_cons.mpr ⟨mpp63_1, List.forall_mem_cons.mpr ⟨mpp63_2, (fun _ h => by cases h)⟩⟩⟩
def mpT64 : List (Nat × xI × Nat) := [(1, iJ33_init, 0)]
theorem mpp64_0 : xMP 64 1 iJ33_init 0 := ⟨kJ33_init, ⟨rfl, rfl, rfl⟩, q183, Or.inl q1839⟩
theorem mpo64 : ∀ e ∈ mpT64, xMP 64 e.1 e.2.1 e.2.2 := List.forall_mem_cons.mpr ⟨mpp64_0, (fun _ h => by cases h)⟩
def mpT65 : List (Nat × xI × Nat) := [(3, iJ28_init, 4)]
theorem mpp65_0 : xMP 65 3 iJ28_init 4 := ⟨kJ28_init, ⟨rfl, rfl, rfl⟩, q1900, Or.inl q1899⟩
theorem mpo65 : ∀ e ∈ mpT65, xMP 65 e.1 e.2.1 e.2.2 := List.forall_mem_cons.mpr ⟨mpp65_0, (fun _ h => by cases h)⟩
def mpT66 : List (Nat × xI × Nat) := [(1, iJ27_init, 4)]
theorem mpp66_0 : xMP 66 1 iJ27_init 4 := ⟨kJ27_init, ⟨rfl, rfl, rfl⟩, q1837, Or.inl q1902⟩
theorem mpo66 : ∀ e ∈ mpT66, xMP 66 e.1 e.2.1 e.2.2 := List.forall_mem_cons.mpr ⟨mpp66_0, (fun _ h => by cases h)⟩
def mpT67 : List (Nat × xI × Nat) := []
theorem mpo67 : ∀ e ∈ mpT67, xMP 67 e.1 e.2.1 e.2.2 := (fun _ h => by cases h)
def mpT68 : List (Nat × xI × Nat) := [(7, iJ33_init, 0), (23, iJ26_init, 1)]
theorem mpp68_0 : xMP 68 7 iJ33_init 0 := ⟨kJ33_init, ⟨rfl, rfl, rfl⟩, q183, Or.inl q1571⟩
theorem mpp68_1 : xMP 68 23 iJ26_init 1 := ⟨kJ26_init, ⟨rfl, rfl, rfl⟩, q1569, Or.inl q1568⟩
theorem mpo68 : ∀ e ∈ mpT68, xMP 68 e.1 e.2.1 e.2.2 := List.forall_mem_cons.mpr ⟨mpp68_0, List.forall_mem_cons.mpr ⟨mpp68_1, (fun _ h => by cases h)⟩⟩
def mpT69 : List (Nat × xI × Nat) := []
theorem mpo69 : ∀ e ∈ mpT69, xMP 69 e.1 e.2.1 e.2.2 := (fun _ h => by cases h)
def mpT70 : List (Nat × xI × Nat) := [(91, iJ10_init, 0), (105, iJ7_init, 1)]
theorem mpp70_0 : xMP 70 91 iJ10_init 0 := ⟨kJ10_init, ⟨rfl, rfl, rfl⟩, q377, Or.inl q1124⟩
theorem mpp70_1 : xMP 70 105 iJ7_init 1 := ⟨kJ7_init, ⟨rfl, rfl, rfl⟩, q657, Or.inl q1129⟩
theorem mpo70 : ∀ e ∈ mpT70, xMP 70 e.1 e.2.1 e.2.2 := List.forall_mem_cons.mpr ⟨mpp70_0, List.forall_mem_cons.mpr ⟨mpp70_1, (fun _ h => by cases h)⟩⟩
def mpT71 : List (Nat × xI × Nat) := []
theorem mpo71 : ∀ e ∈ mpT71, xMP 71 e.1 e.2.1 e.2.2 := (fun _ h => by cases h)
def mpL (oc : Nat) : List (Nat × xI × Nat) := match oc with
  | 0 => mpT0
  | 1 => mpT1
  | 2 => mpT2
  | 3 => mpT3
  | 4 => mpT4
  | 5 => mpT5
  | 6 => mpT6
  | 7 => mpT7
  | 8 => mpT8
  | 9 => mpT9
  | 10 => mpT10
  | 11 => mpT11
  | 12 => mpT12
  | 13 => mpT13
  | 14 => mpT14
  | 15 => mpT15
  | 16 => mpT16
  | 17 => mpT17
  | 18 => mpT18
  | 19 => mpT19
  | 20 => mpT20
  | 21 => mpT21
  | 22 => mpT22
  | 23 => mpT23
  | 24 => mpT24
  | 25 => mpT25
  | 26 => mpT26
  | 27 => mpT27
  | 28 => mpT28
  | 29 => mpT29
  | 30 => mpT30
  | 31 => mpT31
  | 32 => mpT32
  | 33 => mpT33
  | 34 => mpT34
  | 35 => mpT35
  | 36 => mpT36
  | 37 => mpT37
  | 38 => mpT38
  | 39 => mpT39
  | 40 => mpT40
  | 41 => mpT41
  | 42 => mpT42
  | 43 => mpT43
  | 44 => mpT44
  | 45 => mpT45
  | 46 => mpT46
  | 47 => mpT47
  | 48 => mpT48
  | 49 => mpT49
  | 50 => mpT50
  | 51 => mpT51
  | 52 => mpT52
  | 53 => mpT53
  | 54 => mpT54
  | 55 => mpT55
  | 56 => mpT56
  | 57 => mpT57
  | 58 => mpT58
  | 59 => mpT59
  | 60 => mpT60
  | 61 => mpT61
  | 62 => mpT62
  | 63 => mpT63
  | 64 => mpT64
  | 65 => mpT65
  | 66 => mpT66
  | 67 => mpT67
  | 68 => mpT68
  | 69 => mpT69
  | 70 => mpT70
  | 71 => mpT71
  | _ => []
theorem mpL_ok : ∀ oc, ∀ e ∈ mpL oc, xMP oc e.1 e.2.1 e.2.2 := by
  intro oc
  unfold mpL
  split
  · exact mpo0
  · exact mpo1
  · exact mpo2
  · exact mpo3
  · exact mpo4
  · exact mpo5
  · exact mpo6
  · exact mpo7
  · exact mpo8
  · exact mpo9
  · exact mpo10
  · exact mpo11
  · exact mpo12
  · exact mpo13
  · exact mpo14
  · exact mpo15
  · exact mpo16
  · exact mpo17
  · exact mpo18
  · exact mpo19
  · exact mpo20
  · exact mpo21
  · exact mpo22
  · exact mpo23
  · exact mpo24
  · exact mpo25
  · exact mpo26
  · exact mpo27
  · exact mpo28
  · exact mpo29
  · exact mpo30
  · exact mpo31
  · exact mpo32
  · exact mpo33
  · exact mpo34
  · exact mpo35
  · exact mpo36
  · exact mpo37
  · exact mpo38
  · exact mpo39
  · exact mpo40
  · exact mpo41
  · exact mpo42
  · exact mpo43
  · exact mpo44
  · exact mpo45
  · exact mpo46
  · exact mpo47
  · exact mpo48
  · exact mpo49
  · exact mpo50
  · exact mpo51
  · exact mpo52
  · exact mpo53
  · exact mpo54
  · exact mpo55
  · exact mpo56
  · exact mpo57
  · exact mpo58
  · exact mpo59
  · exact mpo60
  · exact mpo61
  · exact mpo62
  · exact mpo63
  · exact mpo64
  · exact mpo65
  · exact mpo66
  · exact mpo67
  · exact mpo68
  · exact mpo69
  · exact mpo70
  · exact mpo71
  · intro e h; cases h
def xMV (oc idx ci : Nat) (I : xI) (n : Nat) : Prop := xMk I n ∧ Cond.instanceMethod (iY I) ∈ lw_all ∧ ∃ (C : String) (T : u_T) (N : Nat), CL[ci]? = some (C, T, N) ∧
  ((Cond.selects C (iY I) (iY I) ∈ lw_all ∧ (Cond.methodLink (ocN oc) idx (iY I) ∈ lw_all ∨ ∃ host, Cond.methodLinkNest (ocN oc) idx (iY I) host ∈ lw_tbl)) ∨
   ∃ (x : MethodName) (owner : String), Cond.selects C x (iY I) ∈ lw_all ∧ Cond.methodLink (ocN oc) idx x ∈ lw_all ∧ Cond.sameMethod x.cls owner x.name x.desc ∈ lw_all ∧ (owner ≠ "java/lang/invoke/MethodHandle" ∧ owner ≠ "java/lang/invoke/VarHandle") ∧ (parseMethodDescriptor x.desc).map (fun d => d.parameters.length) = some n ∧
     (Cond.declares ⟨owner, x.name, x.desc⟩ ∈ lw_tbl ∨ (Cond.instanceMethod ⟨owner, x.name, x.desc⟩ ∈ lw_all ∧ ∃ b m r, Cond.code ⟨owner, x.name, x.desc⟩ b m r ∈ lw_all)))
def mvT0 : List (Nat × Nat × xI × Nat) := [(83, 1, iX2_put, 1), (98, 5, iX8_all, 0), (105, 4, iX7_read, 0), (124, 3, iJ2_size, 0), (137, 2, iX3_areas, 0), (140, 2, iX3_crossings, 0), (143, 2, iX3_inside, 0), (152, 2, iX3_insideOf, 1), (156, 3, iJ2_iterator, 0), (175, 0, iX1_pointGet, 2), (178, 20, iX17_area, 0), (189, 20, iX17_crosses, 1), (193, 20, iX17_gridPoints, 0), (196, 20, iX17_isConvex, 0), (206, 20, iX17_lies, 2), (209, 20, iX17_hull, 0), (212, 20, iX17_hullArea, 0), (215, 20, iX17_widest, 0), (221, 15, iJ19_intValue, 0), (224, 2, iX3_square, 3), (228, 2, iX3_where, 0), (232, 2, iX3_keep, 1), (236, 2, iX3_put, 3), (239, 2, iX3_carry, 1), (243, 2, iX3_run, 0), (246, 3, iJ2_isEmpty, 0), (249, 3, iJ2_remove, 1), (253, 2, iX3_bring, 1), (256, 3, iJ2_get, 1), (263, 36, iJ8_ordinal, 0), (263, 37, iJ8_ordinal, 0), (263, 38, iJ8_ordinal, 0), (284, 0, iX1_stepGet, 2), (287, 2, iX3_as, 1), (295, 0, iX1_count, 1)]
theorem mvp0_0 : xMV 0 83 1 iX2_put 1 := ⟨kX2_put, q2522, _, _, _, rfl, Or.inl ⟨q2523, Or.inl q2521⟩⟩
theorem mvp0_1 : xMV 0 98 5 iX8_all 0 := ⟨kX8_all, q322, _, _, _, rfl, Or.inl ⟨q323, Or.inl q321⟩⟩
theorem mvp0_2 : xMV 0 105 4 iX7_read 0 := ⟨kX7_read, q926, _, _, _, rfl, Or.inl ⟨q927, Or.inl q925⟩⟩
theorem mvp0_3 : xMV 0 124 3 iJ2_size 0 := ⟨kJ2_size, q337, _, _, _, rfl, Or.inl ⟨q338, Or.inl q2353⟩⟩
theorem mvp0_4 : xMV 0 137 2 iX3_areas 0 := ⟨kX3_areas, q2301, _, _, _, rfl, Or.inl ⟨q2302, Or.inl q2300⟩⟩
theorem mvp0_5 : xMV 0 140 2 iX3_crossings 0 := ⟨kX3_crossings, q2386, _, _, _, rfl, Or.inl ⟨q2387, Or.inl q2385⟩⟩
theorem mvp0_6 : xMV 0 143 2 iX3_inside 0 := ⟨kX3_inside, q2391, _, _, _, rfl, Or.inl ⟨q2392, Or.inl q2390⟩⟩
theorem mvp0_7 : xMV 0 152 2 iX3_insideOf 1 := ⟨kX3_insideOf, q2395, _, _, _, rfl, Or.inl ⟨q2396, Or.inl q2403⟩⟩
theorem mvp0_8 : xMV 0 156 3 iJ2_iterator 0 := ⟨kJ2_iterator, q2305, _, _, _, rfl, Or.inl ⟨q2306, Or.inl q2404⟩⟩
theorem mvp0_9 : xMV 0 175 0 iX1_pointGet 2 := ⟨kX1_pointGet, q2401, _, _, _, rfl, Or.inl ⟨qs33, Or.inl q2399⟩⟩
theorem mvp0_10 : xMV 0 178 20 iX17_area 0 := ⟨kX17_area, q1710, _, _, _, rfl, Or.inl ⟨q1711, Or.inl q2413⟩⟩
theorem mvp0_11 : xMV 0 189 20 iX17_crosses 1 := ⟨kX17_crosses, q1734, _, _, _, rfl, Or.inl ⟨q1735, Or.inl q2416⟩⟩
theorem mvp0_12 : xMV 0 193 20 iX17_gridPoints 0 := ⟨kX17_gridPoints, q2418, _, _, _, rfl, Or.inl ⟨q2419, Or.inl q2417⟩⟩
theorem mvp0_13 : xMV 0 196 20 iX17_isConvex 0 := ⟨kX17_isConvex, q2427, _, _, _, rfl, Or.inl ⟨q2428, Or.inl q2426⟩⟩
theorem mvp0_14 : xMV 0 206 20 iX17_lies 2 := ⟨kX17_lies, q2234, _, _, _, rfl, Or.inl ⟨q2235, Or.inl q2600⟩⟩
theorem mvp0_15 : xMV 0 209 20 iX17_hull 0 := ⟨kX17_hull, q2434, _, _, _, rfl, Or.inl ⟨q2435, Or.inl q2433⟩⟩
theorem mvp0_16 : xMV 0 212 20 iX17_hullArea 0 := ⟨kX17_hullArea, q2461, _, _, _, rfl, Or.inl ⟨q2462, Or.inl q2460⟩⟩
theorem mvp0_17 : xMV 0 215 20 iX17_widest 0 := ⟨kX17_widest, q2466, _, _, _, rfl, Or.inl ⟨q2467, Or.inl q2465⟩⟩
theorem mvp0_18 : xMV 0 221 15 iJ19_intValue 0 := ⟨kJ19_intValue, q1189, _, _, _, rfl, Or.inl ⟨q1190, Or.inl q2478⟩⟩
theorem mvp0_19 : xMV 0 224 2 iX3_square 3 := ⟨kX3_square, q2455, _, _, _, rfl, Or.inl ⟨q2456, Or.inl q2629⟩⟩
theorem mvp0_20 : xMV 0 228 2 iX3_where 0 := ⟨kX3_where, q2174, _, _, _, rfl, Or.inl ⟨q2175, Or.inl q2173⟩⟩
theorem mvp0_21 : xMV 0 232 2 iX3_keep 1 := ⟨kX3_keep, q2179, _, _, _, rfl, Or.inl ⟨q2180, Or.inl q2178⟩⟩
theorem mvp0_22 : xMV 0 236 2 iX3_put 3 := ⟨kX3_put, q1787, _, _, _, rfl, Or.inl ⟨q1788, Or.inl q2644⟩⟩
theorem mvp0_23 : xMV 0 239 2 iX3_carry 1 := ⟨kX3_carry, q2198, _, _, _, rfl, Or.inl ⟨q2199, Or.inl q2652⟩⟩
theorem mvp0_24 : xMV 0 243 2 iX3_run 0 := ⟨kX3_run, q2194, _, _, _, rfl, Or.inl ⟨q2195, Or.inl q2193⟩⟩
theorem mvp0_25 : xMV 0 246 3 iJ2_isEmpty 0 := ⟨kJ2_isEmpty, q2297, _, _, _, rfl, Or.inl ⟨q2298, Or.inl q2296⟩⟩
theorem mvp0_26 : xMV 0 249 3 iJ2_remove 1 := ⟨kJ2_remove, q2185, _, _, _, rfl, Or.inl ⟨q2186, Or.inl q2660⟩⟩
theorem mvp0_27 : xMV 0 253 2 iX3_bring 1 := ⟨kX3_bring, q2663, _, _, _, rfl, Or.inl ⟨q2664, Or.inl q2662⟩⟩
theorem mvp0_28 : xMV 0 256 3 iJ2_get 1 := ⟨kJ2_get, q944, _, _, _, rfl, Or.inl ⟨q3303, Or.inl q2483⟩⟩
theorem mvp0_29 : xMV 0 263 36 iJ8_ordinal 0 := ⟨kJ8_ordinal, q2491, _, _, _, rfl, Or.inr ⟨_, _, q2488, q2485, q2486, ⟨by decide +kernel, by decide +kernel⟩, by decide +kernel, Or.inl q2487⟩⟩
theorem mvp0_30 : xMV 0 263 37 iJ8_ordinal 0 := ⟨kJ8_ordinal, q2491, _, _, _, rfl, Or.inr ⟨_, _, q2489, q2485, q2486, ⟨by decide +kernel, by decide +kernel⟩, by decide +kernel, Or.inl q2487⟩⟩
theorem mvp0_31 : xMV 0 263 38 iJ8_ordinal 0 := ⟨kJ8_ordinal, q2491, _, _, _, rfl, Or.inr ⟨_, _, q2490, q2485, q2486, ⟨by decide +kernel, by decide +kernel⟩, by decide +kernel, Or.inl q2487⟩⟩
theorem mvp0_32 : xMV 0 284 0 iX1_stepGet 2 := ⟨kX1_stepGet, q2481, _, _, _, rfl, Or.inl ⟨qs37, Or.inl q2479⟩⟩
theorem mvp0_33 : xMV 0 287 2 iX3_as 1 := ⟨kX3_as, q2681, _, _, _, rfl, Or.inl ⟨q2682, Or.inl q2680⟩⟩
theorem mvp0_34 : xMV 0 295 0 iX1_count 1 := ⟨kX1_count, q2361, _, _, _, rfl, Or.inl ⟨q2362, Or.inl q2360⟩⟩
theorem mvo0 : ∀ e ∈ mvT0, xMV 0 e.1 e.2.1 e.2.2.1 e.2.2.2 := List.forall_mem_cons.mpr ⟨mvp0_0, List.forall_mem_cons.mpr ⟨mvp0_1, List.forall_mem_cons.mpr ⟨mvp0_2, List.forall_mem_cons.mpr ⟨mvp0_3, List.forall_mem_cons.mpr ⟨mvp0_4, List.forall_mem_cons.mpr ⟨mvp0_5, List.forall_mem_cons.mpr ⟨mvp0_6, List.forall_mem_cons.mpr ⟨mvp0_7, List.forall_mem_cons.mpr ⟨mvp0_8, List.forall_mem_cons.mpr ⟨mvp0_9, List.forall_mem_cons.mpr ⟨mvp0_10, List.forall_mem_cons.mpr ⟨mvp0_11, List.forall_mem_cons.mpr ⟨mvp0_12, List.forall_mem_cons.mpr ⟨mvp0_13, List.forall_mem_cons.mpr ⟨mvp0_14, List.forall_mem_cons.mpr ⟨mvp0_15, List.forall_mem_cons.mpr ⟨mvp0_16, List.forall_mem_cons.mpr ⟨mvp0_17, List.forall_mem_cons.mpr ⟨mvp0_18, List.forall_mem_cons.mpr ⟨mvp0_19, List.forall_mem_cons.mpr ⟨mvp0_20, List.forall_mem_cons.mpr ⟨mvp0_21, List.forall_mem_cons.mpr ⟨mvp0_22, List.forall_mem_cons.mpr ⟨mvp0_23, List.forall_mem_cons.mpr ⟨mvp0_24, List.forall_mem_cons.mpr ⟨mvp0_25, List.forall_mem_cons.mpr ⟨mvp0_26, List.forall_mem_cons.mpr ⟨mvp0_27, List.forall_mem_cons.mpr ⟨mvp0_28, List.forall_mem_cons.mpr ⟨mvp0_29, List.forall_mem_cons.mpr ⟨mvp0_30, List.forall_mem_cons.mpr ⟨mvp0_31, List.forall_mem_cons.mpr ⟨mvp0_32, List.forall_mem_cons.mpr ⟨mvp0_33, List.forall_mem_cons.mpr ⟨mvp0_34, (fun _ h => by cases h)⟩⟩⟩⟩⟩⟩⟩⟩⟩⟩⟩⟩⟩⟩⟩⟩⟩⟩⟩⟩⟩⟩⟩⟩⟩⟩⟩⟩⟩⟩⟩⟩⟩⟩⟩
def mvT1 : List (Nat × Nat × xI × Nat) := []
theorem mvo1 : ∀ e ∈ mvT1, xMV 1 e.1 e.2.1 e.2.2.1 e.2.2.2 := (fun _ h => by cases h)
def mvT2 : List (Nat × Nat × xI × Nat) := [(20, 13, iX12_of, 1), (20, 16, iX13_of, 1), (20, 17, iX14_of, 1), (20, 18, iX15_of, 1), (20, 19, iX16_of, 1), (32, 8, iJ11_charAt, 1), (38, 8, iJ11_length, 0)]
theorem mvp2_0 : xMV 2 20 13 iX12_of 1 := ⟨kX12_of, q1756, _, _, _, rfl, Or.inr ⟨_, _, q1784, q2213, q1691, ⟨by decide +kernel, by decide +kernel⟩, by decide +kernel, Or.inl q1690⟩⟩
theorem mvp2_1 : xMV 2 20 16 iX13_of 1 := ⟨kX13_of, q1729, _, _, _, rfl, Or.inr ⟨_, _, q1728, q2213, q1691, ⟨by decide +kernel, by decide +kernel⟩, by decide +kernel, Or.inl q1690⟩⟩
theorem mvp2_2 : xMV 2 20 17 iX14_of 1 := ⟨kX14_of, q1693, _, _, _, rfl, Or.inr ⟨_, _, q1692, q2213, q1691, ⟨by decide +kernel, by decide +kernel⟩, by decide +kernel, Or.inl q1690⟩⟩
theorem mvp2_3 : xMV 2 20 18 iX15_of 1 := ⟨kX15_of, q1758, _, _, _, rfl, Or.inr ⟨_, _, q1785, q2213, q1691, ⟨by decide +kernel, by decide +kernel⟩, by decide +kernel, Or.inl q1690⟩⟩
theorem mvp2_4 : xMV 2 20 19 iX16_of 1 := ⟨kX16_of, q1753, _, _, _, rfl, Or.inr ⟨_, _, q1752, q2213, q1691, ⟨by decide +kernel, by decide +kernel⟩, by decide +kernel, Or.inl q1690⟩⟩
theorem mvp2_5 : xMV 2 32 8 iJ11_charAt 1 := ⟨kJ11_charAt, q1530, _, _, _, rfl, Or.inl ⟨q1531, Or.inl q2215⟩⟩
theorem mvp2_6 : xMV 2 38 8 iJ11_length 0 := ⟨kJ11_length, q632, _, _, _, rfl, Or.inl ⟨q633, Or.inl q2216⟩⟩
theorem mvo2 : ∀ e ∈ mvT2, xMV 2 e.1 e.2.1 e.2.2.1 e.2.2.2 := List.forall_mem_cons.mpr ⟨mvp2_0, List.forall_mem_cons.mpr ⟨mvp2_1, List.forall_mem_cons.mpr ⟨mvp2_2, List.forall_mem_cons.mpr ⟨mvp2_3, List.forall_mem_cons.mpr ⟨mvp2_4, List.forall_mem_cons.mpr ⟨mvp2_5, List.forall_mem_cons.mpr ⟨mvp2_6, (fun _ h => by cases h)⟩⟩⟩⟩⟩⟩⟩
def mvT3 : List (Nat × Nat × xI × Nat) := [(22, 3, iJ2_get, 1), (30, 20, iX17_crosses, 1)]
theorem mvp3_0 : xMV 3 22 3 iJ2_get 1 := ⟨kJ2_get, q944, _, _, _, rfl, Or.inl ⟨q3303, Or.inl q1731⟩⟩
theorem mvp3_1 : xMV 3 30 20 iX17_crosses 1 := ⟨kX17_crosses, q1734, _, _, _, rfl, Or.inl ⟨q1735, Or.inl q1733⟩⟩
theorem mvo3 : ∀ e ∈ mvT3, xMV 3 e.1 e.2.1 e.2.2.1 e.2.2.2 := List.forall_mem_cons.mpr ⟨mvp3_0, List.forall_mem_cons.mpr ⟨mvp3_1, (fun _ h => by cases h)⟩⟩
def mvT4 : List (Nat × Nat × xI × Nat) := [(13, 14, iJ26_get, 0), (21, 13, iX12_of, 1), (21, 16, iX13_of, 1), (21, 17, iX14_of, 1), (21, 18, iX15_of, 1), (21, 19, iX16_of, 1), (41, 2, iX3_put, 3)]
theorem mvp4_0 : xMV 4 13 14 iJ26_get 0 := ⟨kJ26_get, q2274, _, _, _, rfl, Or.inl ⟨q2275, Or.inl q2273⟩⟩
theorem mvp4_1 : xMV 4 21 13 iX12_of 1 := ⟨kX12_of, q1756, _, _, _, rfl, Or.inr ⟨_, _, q1784, q2278, q1691, ⟨by decide +kernel, by decide +kernel⟩, by decide +kernel, Or.inl q1690⟩⟩
theorem mvp4_2 : xMV 4 21 16 iX13_of 1 := ⟨kX13_of, q1729, _, _, _, rfl, Or.inr ⟨_, _, q1728, q2278, q1691, ⟨by decide +kernel, by decide +kernel⟩, by decide +kernel, Or.inl q1690⟩⟩
theorem mvp4_3 : xMV 4 21 17 iX14_of 1 := ⟨kX14_of, q1693, _, _, _, rfl, Or.inr ⟨_, _, q1692, q2278, q1691, ⟨by decide +kernel, by decide +kernel⟩, by decide +kernel, Or.inl q1690⟩⟩
theorem mvp4_4 : xMV 4 21 18 iX15_of 1 := ⟨kX15_of, q1758, _, _, _, rfl, Or.inr ⟨_, _, q1785, q2278, q1691, ⟨by decide +kernel, by decide +kernel⟩, by decide +kernel, Or.inl q1690⟩⟩
theorem mvp4_5 : xMV 4 21 19 iX16_of 1 := ⟨kX16_of, q1753, _, _, _, rfl, Or.inr ⟨_, _, q1752, q2278, q1691, ⟨by decide +kernel, by decide +kernel⟩, by decide +kernel, Or.inl q1690⟩⟩
theorem mvp4_6 : xMV 4 41 2 iX3_put 3 := ⟨kX3_put, q1787, _, _, _, rfl, Or.inl ⟨q1788, Or.inl q2279⟩⟩
theorem mvo4 : ∀ e ∈ mvT4, xMV 4 e.1 e.2.1 e.2.2.1 e.2.2.2 := List.forall_mem_cons.mpr ⟨mvp4_0, List.forall_mem_cons.mpr ⟨mvp4_1, List.forall_mem_cons.mpr ⟨mvp4_2, List.forall_mem_cons.mpr ⟨mvp4_3, List.forall_mem_cons.mpr ⟨mvp4_4, List.forall_mem_cons.mpr ⟨mvp4_5, List.forall_mem_cons.mpr ⟨mvp4_6, (fun _ h => by cases h)⟩⟩⟩⟩⟩⟩⟩
def mvT5 : List (Nat × Nat × xI × Nat) := [(29, 3, iJ2_get, 1), (40, 2, iX3_put, 3)]
theorem mvp5_0 : xMV 5 29 3 iJ2_get 1 := ⟨kJ2_get, q944, _, _, _, rfl, Or.inl ⟨q3303, Or.inl q2283⟩⟩
theorem mvp5_1 : xMV 5 40 2 iX3_put 3 := ⟨kX3_put, q1787, _, _, _, rfl, Or.inl ⟨q1788, Or.inl q2285⟩⟩
theorem mvo5 : ∀ e ∈ mvT5, xMV 5 e.1 e.2.1 e.2.2.1 e.2.2.2 := List.forall_mem_cons.mpr ⟨mvp5_0, List.forall_mem_cons.mpr ⟨mvp5_1, (fun _ h => by cases h)⟩⟩
def mvT6 : List (Nat × Nat × xI × Nat) := [(26, 3, iJ2_get, 1), (40, 2, iX3_put, 3)]
theorem mvp6_0 : xMV 6 26 3 iJ2_get 1 := ⟨kJ2_get, q944, _, _, _, rfl, Or.inl ⟨q3303, Or.inl q2289⟩⟩
theorem mvp6_1 : xMV 6 40 2 iX3_put 3 := ⟨kX3_put, q1787, _, _, _, rfl, Or.inl ⟨q1788, Or.inl q2291⟩⟩
theorem mvo6 : ∀ e ∈ mvT6, xMV 6 e.1 e.2.1 e.2.2.1 e.2.2.2 := List.forall_mem_cons.mpr ⟨mvp6_0, List.forall_mem_cons.mpr ⟨mvp6_1, (fun _ h => by cases h)⟩⟩
def mvT7 : List (Nat × Nat × xI × Nat) := []
theorem mvo7 : ∀ e ∈ mvT7, xMV 7 e.1 e.2.1 e.2.2.1 e.2.2.2 := (fun _ h => by cases h)
def mvT8 : List (Nat × Nat × xI × Nat) := []
theorem mvo8 : ∀ e ∈ mvT8, xMV 8 e.1 e.2.1 e.2.2.1 e.2.2.2 := (fun _ h => by cases h)
def mvT9 : List (Nat × Nat × xI × Nat) := [(22, 3, iJ2_get, 1), (37, 20, iX17_lies, 2)]
theorem mvp9_0 : xMV 9 22 3 iJ2_get 1 := ⟨kJ2_get, q944, _, _, _, rfl, Or.inl ⟨q3303, Or.inl q2231⟩⟩
theorem mvp9_1 : xMV 9 37 20 iX17_lies 2 := ⟨kX17_lies, q2234, _, _, _, rfl, Or.inl ⟨q2235, Or.inl q2233⟩⟩
theorem mvo9 : ∀ e ∈ mvT9, xMV 9 e.1 e.2.1 e.2.2.1 e.2.2.2 := List.forall_mem_cons.mpr ⟨mvp9_0, List.forall_mem_cons.mpr ⟨mvp9_1, (fun _ h => by cases h)⟩⟩
def mvT10 : List (Nat × Nat × xI × Nat) := [(20, 13, iX12_of, 1), (20, 16, iX13_of, 1), (20, 17, iX14_of, 1), (20, 18, iX15_of, 1), (20, 19, iX16_of, 1)]
theorem mvp10_0 : xMV 10 20 13 iX12_of 1 := ⟨kX12_of, q1756, _, _, _, rfl, Or.inr ⟨_, _, q1784, q1755, q1691, ⟨by decide +kernel, by decide +kernel⟩, by decide +kernel, Or.inl q1690⟩⟩
theorem mvp10_1 : xMV 10 20 16 iX13_of 1 := ⟨kX13_of, q1729, _, _, _, rfl, Or.inr ⟨_, _, q1728, q1755, q1691, ⟨by decide +kernel, by decide +kernel⟩, by decide +kernel, Or.inl q1690⟩⟩
theorem mvp10_2 : xMV 10 20 17 iX14_of 1 := ⟨kX14_of, q1693, _, _, _, rfl, Or.inr ⟨_, _, q1692, q1755, q1691, ⟨by decide +kernel, by decide +kernel⟩, by decide +kernel, Or.inl q1690⟩⟩
theorem mvp10_3 : xMV 10 20 18 iX15_of 1 := ⟨kX15_of, q1758, _, _, _, rfl, Or.inr ⟨_, _, q1785, q1755, q1691, ⟨by decide +kernel, by decide +kernel⟩, by decide +kernel, Or.inl q1690⟩⟩
theorem mvp10_4 : xMV 10 20 19 iX16_of 1 := ⟨kX16_of, q1753, _, _, _, rfl, Or.inr ⟨_, _, q1752, q1755, q1691, ⟨by decide +kernel, by decide +kernel⟩, by decide +kernel, Or.inl q1690⟩⟩
theorem mvo10 : ∀ e ∈ mvT10, xMV 10 e.1 e.2.1 e.2.2.1 e.2.2.2 := List.forall_mem_cons.mpr ⟨mvp10_0, List.forall_mem_cons.mpr ⟨mvp10_1, List.forall_mem_cons.mpr ⟨mvp10_2, List.forall_mem_cons.mpr ⟨mvp10_3, List.forall_mem_cons.mpr ⟨mvp10_4, (fun _ h => by cases h)⟩⟩⟩⟩⟩
def mvT11 : List (Nat × Nat × xI × Nat) := []
theorem mvo11 : ∀ e ∈ mvT11, xMV 11 e.1 e.2.1 e.2.2.1 e.2.2.2 := (fun _ h => by cases h)
def mvT12 : List (Nat × Nat × xI × Nat) := [(46, 4, iX7_now, 0), (54, 6, iX9_is, 1), (58, 4, iX7_takeIf, 1), (61, 4, iX7_wrong, 0), (72, 4, iX7_take_2, 1), (76, 4, iX7_list, 0), (88, 4, iX7_take, 1), (95, 11, iJ22_containsKey, 1), (99, 4, iX7_check, 3), (103, 11, iJ22_size, 0), (113, 11, iJ22_put, 2), (117, 11, iJ22_get, 1), (126, 14, iJ26_orElse, 1), (129, 15, iJ19_intValue, 0), (135, 6, iX9_number, 0), (143, 4, iX7_point, 0), (147, 4, iX7_shape, 0), (149, 4, iX7_step, 1), (155, 4, iX7_name, 2), (160, 4, iX7_sum, 0), (168, 13, iX12_of, 1), (168, 16, iX13_of, 1), (168, 17, iX14_of, 1), (168, 18, iX15_of, 1), (168, 19, iX16_of, 1), (174, 2, iX3_put, 3), (177, 4, iX7_put, 2), (184, 4, iX7_corner, 1), (188, 3, iJ2_size, 0), (202, 3, iJ2_add, 1), (205, 4, iX7_known, 1), (249, 4, iX7_test, 0), (269, 4, iX7_both, 0), (274, 4, iX7_single, 0), (281, 4, iX7_deeper, 1), (293, 4, iX7_close, 1), (306, 8, iJ11_charAt, 1), (312, 8, iJ11_indexOf, 1), (321, 4, iX7_product, 0), (342, 4, iX7_value, 0), (388, 4, iX7_which, 1)]
theorem mvp12_0 : xMV 12 46 4 iX7_now 0 := ⟨kX7_now, q935, _, _, _, rfl, Or.inl ⟨qs6, Or.inl q933⟩⟩
theorem mvp12_1 : xMV 12 54 6 iX9_is 1 := ⟨kX9_is, q963, _, _, _, rfl, Or.inl ⟨q964, Or.inl q962⟩⟩
theorem mvp12_2 : xMV 12 58 4 iX7_takeIf 1 := ⟨kX7_takeIf, q960, _, _, _, rfl, Or.inl ⟨qs7, Or.inl q958⟩⟩
theorem mvp12_3 : xMV 12 61 4 iX7_wrong 0 := ⟨kX7_wrong, q984, _, _, _, rfl, Or.inl ⟨qs11, Or.inl q982⟩⟩
theorem mvp12_4 : xMV 12 72 4 iX7_take_2 1 := ⟨kX7_take_2, q1507, _, _, _, rfl, Or.inl ⟨qs13, Or.inl q1505⟩⟩
theorem mvp12_5 : xMV 12 76 4 iX7_list 0 := ⟨kX7_list, q931, _, _, _, rfl, Or.inl ⟨qs5, Or.inl q929⟩⟩
theorem mvp12_6 : xMV 12 88 4 iX7_take 1 := ⟨kX7_take, q980, _, _, _, rfl, Or.inl ⟨qs10, Or.inl q978⟩⟩
theorem mvp12_7 : xMV 12 95 11 iJ22_containsKey 1 := ⟨kJ22_containsKey, q1013, _, _, _, rfl, Or.inl ⟨q1014, Or.inl q1012⟩⟩
theorem mvp12_8 : xMV 12 99 4 iX7_check 3 := ⟨kX7_check, q1498, _, _, _, rfl, Or.inl ⟨qs12, Or.inl q1496⟩⟩
theorem mvp12_9 : xMV 12 103 11 iJ22_size 0 := ⟨kJ22_size, q1501, _, _, _, rfl, Or.inl ⟨q1502, Or.inl q1500⟩⟩
theorem mvp12_10 : xMV 12 113 11 iJ22_put 2 := ⟨kJ22_put, q1806, _, _, _, rfl, Or.inl ⟨q1807, Or.inl q1805⟩⟩
theorem mvp12_11 : xMV 12 117 11 iJ22_get 1 := ⟨kJ22_get, q1557, _, _, _, rfl, Or.inl ⟨q1558, Or.inl q1556⟩⟩
theorem mvp12_12 : xMV 12 126 14 iJ26_orElse 1 := ⟨kJ26_orElse, q1596, _, _, _, rfl, Or.inl ⟨q1597, Or.inl q1595⟩⟩
theorem mvp12_13 : xMV 12 129 15 iJ19_intValue 0 := ⟨kJ19_intValue, q1189, _, _, _, rfl, Or.inl ⟨q1190, Or.inl q1599⟩⟩
theorem mvp12_14 : xMV 12 135 6 iX9_number 0 := ⟨kX9_number, q1525, _, _, _, rfl, Or.inl ⟨q1526, Or.inl q1524⟩⟩
theorem mvp12_15 : xMV 12 143 4 iX7_point 0 := ⟨kX7_point, q971, _, _, _, rfl, Or.inl ⟨qs8, Or.inl q969⟩⟩
theorem mvp12_16 : xMV 12 147 4 iX7_shape 0 := ⟨kX7_shape, q1948, _, _, _, rfl, Or.inl ⟨qs24, Or.inl q1946⟩⟩
theorem mvp12_17 : xMV 12 149 4 iX7_step 1 := ⟨kX7_step, q2018, _, _, _, rfl, Or.inl ⟨qs26, Or.inl q2016⟩⟩
theorem mvp12_18 : xMV 12 155 4 iX7_name 2 := ⟨kX7_name, q975, _, _, _, rfl, Or.inl ⟨qs9, Or.inl q973⟩⟩
theorem mvp12_19 : xMV 12 160 4 iX7_sum 0 := ⟨kX7_sum, q1511, _, _, _, rfl, Or.inl ⟨qs14, Or.inl q1509⟩⟩
theorem mvp12_20 : xMV 12 168 13 iX12_of 1 := ⟨kX12_of, q1756, _, _, _, rfl, Or.inr ⟨_, _, q1784, q1689, q1691, ⟨by decide +kernel, by decide +kernel⟩, by decide +kernel, Or.inl q1690⟩⟩
theorem mvp12_21 : xMV 12 168 16 iX13_of 1 := ⟨kX13_of, q1729, _, _, _, rfl, Or.inr ⟨_, _, q1728, q1689, q1691, ⟨by decide +kernel, by decide +kernel⟩, by decide +kernel, Or.inl q1690⟩⟩
theorem mvp12_22 : xMV 12 168 17 iX14_of 1 := ⟨kX14_of, q1693, _, _, _, rfl, Or.inr ⟨_, _, q1692, q1689, q1691, ⟨by decide +kernel, by decide +kernel⟩, by decide +kernel, Or.inl q1690⟩⟩
theorem mvp12_23 : xMV 12 168 18 iX15_of 1 := ⟨kX15_of, q1758, _, _, _, rfl, Or.inr ⟨_, _, q1785, q1689, q1691, ⟨by decide +kernel, by decide +kernel⟩, by decide +kernel, Or.inl q1690⟩⟩
theorem mvp12_24 : xMV 12 168 19 iX16_of 1 := ⟨kX16_of, q1753, _, _, _, rfl, Or.inr ⟨_, _, q1752, q1689, q1691, ⟨by decide +kernel, by decide +kernel⟩, by decide +kernel, Or.inl q1690⟩⟩
theorem mvp12_25 : xMV 12 174 2 iX3_put 3 := ⟨kX3_put, q1787, _, _, _, rfl, Or.inl ⟨q1788, Or.inl q1786⟩⟩
theorem mvp12_26 : xMV 12 177 4 iX7_put 2 := ⟨kX7_put, q1803, _, _, _, rfl, Or.inl ⟨qs23, Or.inl q1801⟩⟩
theorem mvp12_27 : xMV 12 184 4 iX7_corner 1 := ⟨kX7_corner, q1955, _, _, _, rfl, Or.inl ⟨qs25, Or.inl q1953⟩⟩
theorem mvp12_28 : xMV 12 188 3 iJ2_size 0 := ⟨kJ2_size, q337, _, _, _, rfl, Or.inl ⟨q338, Or.inl q1989⟩⟩
theorem mvp12_29 : xMV 12 202 3 iJ2_add 1 := ⟨kJ2_add, q781, _, _, _, rfl, Or.inl ⟨q782, Or.inl q2015⟩⟩
theorem mvp12_30 : xMV 12 205 4 iX7_known 1 := ⟨kX7_known, q1554, _, _, _, rfl, Or.inl ⟨qs17, Or.inl q1552⟩⟩
theorem mvp12_31 : xMV 12 249 4 iX7_test 0 := ⟨kX7_test, q2043, _, _, _, rfl, Or.inl ⟨qs27, Or.inl q2041⟩⟩
theorem mvp12_32 : xMV 12 269 4 iX7_both 0 := ⟨kX7_both, q2063, _, _, _, rfl, Or.inl ⟨qs28, Or.inl q2061⟩⟩
theorem mvp12_33 : xMV 12 274 4 iX7_single 0 := ⟨kX7_single, q2067, _, _, _, rfl, Or.inl ⟨qs29, Or.inl q2065⟩⟩
theorem mvp12_34 : xMV 12 281 4 iX7_deeper 1 := ⟨kX7_deeper, q1639, _, _, _, rfl, Or.inl ⟨qs19, Or.inl q1637⟩⟩
theorem mvp12_35 : xMV 12 293 4 iX7_close 1 := ⟨kX7_close, q1676, _, _, _, rfl, Or.inl ⟨qs20, Or.inl q1674⟩⟩
theorem mvp12_36 : xMV 12 306 8 iJ11_charAt 1 := ⟨kJ11_charAt, q1530, _, _, _, rfl, Or.inl ⟨q1531, Or.inl q2098⟩⟩
theorem mvp12_37 : xMV 12 312 8 iJ11_indexOf 1 := ⟨kJ11_indexOf, q729, _, _, _, rfl, Or.inl ⟨q730, Or.inl q2099⟩⟩
theorem mvp12_38 : xMV 12 321 4 iX7_product 0 := ⟨kX7_product, q1515, _, _, _, rfl, Or.inl ⟨qs15, Or.inl q1513⟩⟩
theorem mvp12_39 : xMV 12 342 4 iX7_value 0 := ⟨kX7_value, q1519, _, _, _, rfl, Or.inl ⟨qs16, Or.inl q1517⟩⟩
theorem mvp12_40 : xMV 12 388 4 iX7_which 1 := ⟨kX7_which, q1619, _, _, _, rfl, Or.inl ⟨qs18, Or.inl q1617⟩⟩
theorem mvo12 : ∀ e ∈ mvT12, xMV 12 e.1 e.2.1 e.2.2.1 e.2.2.2 := List.forall_mem_cons.mpr ⟨mvp12_0, List.forall_mem_cons.mpr ⟨mvp12_1, List.forall_mem_cons.mpr ⟨mvp12_2, List.forall_mem_cons.mpr ⟨mvp12_3, List.forall_mem_cons.mpr ⟨mvp12_4, List.forall_mem_cons.mpr ⟨mvp12_5, List.forall_mem_cons.mpr ⟨mvp12_6, List.forall_mem_cons.mpr ⟨mvp12_7, List.forall_mem_cons.mpr ⟨mvp12_8, List.forall_mem_cons.mpr ⟨mvp12_9, List.forall_mem_cons.mpr ⟨mvp12_10, List.forall_mem_cons.mpr ⟨mvp12_11, List.forall_mem_cons.mpr ⟨mvp12_12, List.forall_mem_cons.mpr ⟨mvp12_13, List.forall_mem_cons.mpr ⟨mvp12_14, List.forall_mem_cons.mpr ⟨mvp12_15, List.forall_mem_cons.mpr ⟨mvp12_16, List.forall_mem_cons.mpr ⟨mvp12_17, List.forall_mem_cons.mpr ⟨mvp12_18, List.forall_mem_cons.mpr ⟨mvp12_19, List.forall_mem_cons.mpr ⟨mvp12_20, List.forall_mem_cons.mpr ⟨mvp12_21, List.forall_mem_cons.mpr ⟨mvp12_22, List.forall_mem_cons.mpr ⟨mvp12_23, List.forall_mem_cons.mpr ⟨mvp12_24, List.forall_mem_cons.mpr ⟨mvp12_25, List.forall_mem_cons.mpr ⟨mvp12_26, List.forall_mem_cons.mpr ⟨mvp12_27, List.forall_mem_cons.mpr ⟨mvp12_28, List.forall_mem_cons.mpr ⟨mvp12_29, List.forall_mem_cons.mpr ⟨mvp12_30, List.forall_mem_cons.mpr ⟨mvp12_31, List.forall_mem_cons.mpr ⟨mvp12_32, List.forall_mem_cons.mpr ⟨mvp12_33, List.forall_mem_cons.mpr ⟨mvp12_34, List.forall_mem_cons.mpr ⟨mvp12_35, List.forall_mem_cons.mpr ⟨mvp12_36, List.forall_mem_cons.mpr ⟨mvp12_37, List.forall_mem_cons.mpr ⟨mvp12_38, List.forall_mem_cons.mpr ⟨mvp12_39, List.forall_mem_cons.mpr ⟨mvp12_40, (fun _ h => by cases h)⟩⟩⟩⟩⟩⟩⟩⟩⟩⟩⟩⟩⟩⟩⟩⟩⟩⟩⟩⟩⟩⟩⟩⟩⟩⟩⟩⟩⟩⟩⟩⟩⟩⟩⟩⟩⟩⟩⟩⟩⟩
def mvT13 : List (Nat × Nat × xI × Nat) := [(26, 8, iJ11_equals, 1), (38, 1, iX2_at, 1), (46, 5, iX8_next, 1), (50, 3, iJ2_add, 1), (68, 8, iJ11_length, 0), (80, 3, iJ2_size, 0), (88, 1, iX2_text, 2), (106, 8, iJ11_indexOf, 1)]
theorem mvp13_0 : xMV 13 26 8 iJ11_equals 1 := ⟨kJ11_equals, q714, _, _, _, rfl, Or.inl ⟨q715, Or.inl q713⟩⟩
theorem mvp13_1 : xMV 13 38 1 iX2_at 1 := ⟨kX2_at, q326, _, _, _, rfl, Or.inl ⟨q327, Or.inl q325⟩⟩
theorem mvp13_2 : xMV 13 46 5 iX8_next 1 := ⟨kX8_next, q334, _, _, _, rfl, Or.inl ⟨qs0, Or.inl q332⟩⟩
theorem mvp13_3 : xMV 13 50 3 iJ2_add 1 := ⟨kJ2_add, q781, _, _, _, rfl, Or.inl ⟨q782, Or.inl q780⟩⟩
theorem mvp13_4 : xMV 13 68 8 iJ11_length 0 := ⟨kJ11_length, q632, _, _, _, rfl, Or.inl ⟨q633, Or.inl q707⟩⟩
theorem mvp13_5 : xMV 13 80 3 iJ2_size 0 := ⟨kJ2_size, q337, _, _, _, rfl, Or.inl ⟨q338, Or.inl q336⟩⟩
theorem mvp13_6 : xMV 13 88 1 iX2_text 2 := ⟨kX2_text, q371, _, _, _, rfl, Or.inl ⟨q372, Or.inl q370⟩⟩
theorem mvp13_7 : xMV 13 106 8 iJ11_indexOf 1 := ⟨kJ11_indexOf, q729, _, _, _, rfl, Or.inl ⟨q730, Or.inl q728⟩⟩
theorem mvo13 : ∀ e ∈ mvT13, xMV 13 e.1 e.2.1 e.2.2.1 e.2.2.2 := List.forall_mem_cons.mpr ⟨mvp13_0, List.forall_mem_cons.mpr ⟨mvp13_1, List.forall_mem_cons.mpr ⟨mvp13_2, List.forall_mem_cons.mpr ⟨mvp13_3, List.forall_mem_cons.mpr ⟨mvp13_4, List.forall_mem_cons.mpr ⟨mvp13_5, List.forall_mem_cons.mpr ⟨mvp13_6, List.forall_mem_cons.mpr ⟨mvp13_7, (fun _ h => by cases h)⟩⟩⟩⟩⟩⟩⟩⟩
def mvT14 : List (Nat × Nat × xI × Nat) := [(20, 3, iJ2_size, 0), (24, 3, iJ2_get, 1)]
theorem mvp14_0 : xMV 14 20 3 iJ2_size 0 := ⟨kJ2_size, q337, _, _, _, rfl, Or.inl ⟨q338, Or.inl q2256⟩⟩
theorem mvp14_1 : xMV 14 24 3 iJ2_get 1 := ⟨kJ2_get, q944, _, _, _, rfl, Or.inl ⟨q3303, Or.inl q2257⟩⟩
theorem mvo14 : ∀ e ∈ mvT14, xMV 14 e.1 e.2.1 e.2.2.1 e.2.2.2 := List.forall_mem_cons.mpr ⟨mvp14_0, List.forall_mem_cons.mpr ⟨mvp14_1, (fun _ h => by cases h)⟩⟩
def mvT15 : List (Nat × Nat × xI × Nat) := []
theorem mvo15 : ∀ e ∈ mvT15, xMV 15 e.1 e.2.1 e.2.2.1 e.2.2.2 := (fun _ h => by cases h)
def mvT16 : List (Nat × Nat × xI × Nat) := []
theorem mvo16 : ∀ e ∈ mvT16, xMV 16 e.1 e.2.1 e.2.2.1 e.2.2.2 := (fun _ h => by cases h)
def mvT17 : List (Nat × Nat × xI × Nat) := []
theorem mvo17 : ∀ e ∈ mvT17, xMV 17 e.1 e.2.1 e.2.2.1 e.2.2.2 := (fun _ h => by cases h)
def mvT18 : List (Nat × Nat × xI × Nat) := []
theorem mvo18 : ∀ e ∈ mvT18, xMV 18 e.1 e.2.1 e.2.2.1 e.2.2.2 := (fun _ h => by cases h)
def mvT19 : List (Nat × Nat × xI × Nat) := []
theorem mvo19 : ∀ e ∈ mvT19, xMV 19 e.1 e.2.1 e.2.2.1 e.2.2.2 := (fun _ h => by cases h)
def mvT20 : List (Nat × Nat × xI × Nat) := []
theorem mvo20 : ∀ e ∈ mvT20, xMV 20 e.1 e.2.1 e.2.2.1 e.2.2.2 := (fun _ h => by cases h)
def mvT21 : List (Nat × Nat × xI × Nat) := []
theorem mvo21 : ∀ e ∈ mvT21, xMV 21 e.1 e.2.1 e.2.2.1 e.2.2.2 := (fun _ h => by cases h)
def mvT22 : List (Nat × Nat × xI × Nat) := []
theorem mvo22 : ∀ e ∈ mvT22, xMV 22 e.1 e.2.1 e.2.2.1 e.2.2.2 := (fun _ h => by cases h)
def mvT23 : List (Nat × Nat × xI × Nat) := [(38, 3, iJ2_clear, 0), (41, 3, iJ2_iterator, 0), (66, 3, iJ2_add, 1), (73, 3, iJ2_addAll, 1), (77, 2, iX3_where, 0), (81, 2, iX3_bring, 1), (95, 3, iJ2_size, 0), (99, 3, iJ2_remove, 1), (103, 3, iJ2_get, 1), (128, 2, iX3_carry, 1), (131, 20, iX17_area, 0), (140, 20, iX17_crosses, 1), (144, 20, iX17_lies, 2), (148, 2, iX3_insideOf, 1)]
theorem mvp23_0 : xMV 23 38 3 iJ2_clear 0 := ⟨kJ2_clear, q2685, _, _, _, rfl, Or.inl ⟨q2686, Or.inl q2684⟩⟩
theorem mvp23_1 : xMV 23 41 3 iJ2_iterator 0 := ⟨kJ2_iterator, q2305, _, _, _, rfl, Or.inl ⟨q2306, Or.inl q2304⟩⟩
theorem mvp23_2 : xMV 23 66 3 iJ2_add 1 := ⟨kJ2_add, q781, _, _, _, rfl, Or.inl ⟨q782, Or.inl q2182⟩⟩
theorem mvp23_3 : xMV 23 73 3 iJ2_addAll 1 := ⟨kJ2_addAll, q2691, _, _, _, rfl, Or.inl ⟨q2692, Or.inl q2690⟩⟩
theorem mvp23_4 : xMV 23 77 2 iX3_where 0 := ⟨kX3_where, q2174, _, _, _, rfl, Or.inl ⟨q2175, Or.inl q2704⟩⟩
theorem mvp23_5 : xMV 23 81 2 iX3_bring 1 := ⟨kX3_bring, q2663, _, _, _, rfl, Or.inl ⟨q2664, Or.inl q2705⟩⟩
theorem mvp23_6 : xMV 23 95 3 iJ2_size 0 := ⟨kJ2_size, q337, _, _, _, rfl, Or.inl ⟨q338, Or.inl q2183⟩⟩
theorem mvp23_7 : xMV 23 99 3 iJ2_remove 1 := ⟨kJ2_remove, q2185, _, _, _, rfl, Or.inl ⟨q2186, Or.inl q2184⟩⟩
theorem mvp23_8 : xMV 23 103 3 iJ2_get 1 := ⟨kJ2_get, q944, _, _, _, rfl, Or.inl ⟨q3303, Or.inl q2201⟩⟩
theorem mvp23_9 : xMV 23 128 2 iX3_carry 1 := ⟨kX3_carry, q2198, _, _, _, rfl, Or.inl ⟨q2199, Or.inl q2197⟩⟩
theorem mvp23_10 : xMV 23 131 20 iX17_area 0 := ⟨kX17_area, q1710, _, _, _, rfl, Or.inl ⟨q1711, Or.inl q2351⟩⟩
theorem mvp23_11 : xMV 23 140 20 iX17_crosses 1 := ⟨kX17_crosses, q1734, _, _, _, rfl, Or.inl ⟨q1735, Or.inl q2389⟩⟩
theorem mvp23_12 : xMV 23 144 20 iX17_lies 2 := ⟨kX17_lies, q2234, _, _, _, rfl, Or.inl ⟨q2235, Or.inl q2398⟩⟩
theorem mvp23_13 : xMV 23 148 2 iX3_insideOf 1 := ⟨kX3_insideOf, q2395, _, _, _, rfl, Or.inl ⟨q2396, Or.inl q2394⟩⟩
theorem mvo23 : ∀ e ∈ mvT23, xMV 23 e.1 e.2.1 e.2.2.1 e.2.2.2 := List.forall_mem_cons.mpr ⟨mvp23_0, List.forall_mem_cons.mpr ⟨mvp23_1, List.forall_mem_cons.mpr ⟨mvp23_2, List.forall_mem_cons.mpr ⟨mvp23_3, List.forall_mem_cons.mpr ⟨mvp23_4, List.forall_mem_cons.mpr ⟨mvp23_5, List.forall_mem_cons.mpr ⟨mvp23_6, List.forall_mem_cons.mpr ⟨mvp23_7, List.forall_mem_cons.mpr ⟨mvp23_8, List.forall_mem_cons.mpr ⟨mvp23_9, List.forall_mem_cons.mpr ⟨mvp23_10, List.forall_mem_cons.mpr ⟨mvp23_11, List.forall_mem_cons.mpr ⟨mvp23_12, List.forall_mem_cons.mpr ⟨mvp23_13, (fun _ h => by cases h)⟩⟩⟩⟩⟩⟩⟩⟩⟩⟩⟩⟩⟩⟩
def mvT24 : List (Nat × Nat × xI × Nat) := [(31, 15, iJ19_intValue, 0), (42, 20, iX17_x, 1), (46, 20, iX17_next, 1), (49, 20, iX17_y, 1), (56, 20, iX17_side, 3), (62, 20, iX17_parts, 3), (70, 20, iX17_isOn, 3), (73, 20, iX17_isRight, 3), (85, 2, iX3_square, 3), (91, 2, iX3_isAhead, 2), (98, 3, iJ2_isEmpty, 0), (106, 3, iJ2_add, 1), (110, 20, iX17_around, 1), (113, 2, iX3_isSame, 2), (116, 20, iX17_hull, 0)]
theorem mvp24_0 : xMV 24 31 15 iJ19_intValue 0 := ⟨kJ19_intValue, q1189, _, _, _, rfl, Or.inl ⟨q1190, Or.inl q2003⟩⟩
theorem mvp24_1 : xMV 24 42 20 iX17_x 1 := ⟨kX17_x, q1714, _, _, _, rfl, Or.inl ⟨q1715, Or.inl q1713⟩⟩
theorem mvp24_2 : xMV 24 46 20 iX17_next 1 := ⟨kX17_next, q1718, _, _, _, rfl, Or.inl ⟨q1719, Or.inl q1717⟩⟩
theorem mvp24_3 : xMV 24 49 20 iX17_y 1 := ⟨kX17_y, q1722, _, _, _, rfl, Or.inl ⟨q1723, Or.inl q1721⟩⟩
theorem mvp24_4 : xMV 24 56 20 iX17_side 3 := ⟨kX17_side, q1744, _, _, _, rfl, Or.inl ⟨qs22, Or.inl q1742⟩⟩
theorem mvp24_5 : xMV 24 62 20 iX17_parts 3 := ⟨kX17_parts, q1739, _, _, _, rfl, Or.inl ⟨qs21, Or.inl q1737⟩⟩
theorem mvp24_6 : xMV 24 70 20 iX17_isOn 3 := ⟨kX17_isOn, q2239, _, _, _, rfl, Or.inl ⟨qs31, Or.inl q2237⟩⟩
theorem mvp24_7 : xMV 24 73 20 iX17_isRight 3 := ⟨kX17_isRight, q2248, _, _, _, rfl, Or.inl ⟨qs32, Or.inl q2246⟩⟩
theorem mvp24_8 : xMV 24 85 2 iX3_square 3 := ⟨kX3_square, q2455, _, _, _, rfl, Or.inl ⟨q2456, Or.inl q2454⟩⟩
theorem mvp24_9 : xMV 24 91 2 iX3_isAhead 2 := ⟨kX3_isAhead, q2439, _, _, _, rfl, Or.inl ⟨qs34, Or.inr ⟨_, q2437⟩⟩⟩
theorem mvp24_10 : xMV 24 98 3 iJ2_isEmpty 0 := ⟨kJ2_isEmpty, q2297, _, _, _, rfl, Or.inl ⟨q2298, Or.inl q2443⟩⟩
theorem mvp24_11 : xMV 24 106 3 iJ2_add 1 := ⟨kJ2_add, q781, _, _, _, rfl, Or.inl ⟨q782, Or.inl q2445⟩⟩
theorem mvp24_12 : xMV 24 110 20 iX17_around 1 := ⟨kX17_around, q2448, _, _, _, rfl, Or.inl ⟨qs35, Or.inl q2446⟩⟩
theorem mvp24_13 : xMV 24 113 2 iX3_isSame 2 := ⟨kX3_isSame, q2452, _, _, _, rfl, Or.inl ⟨qs36, Or.inr ⟨_, q2450⟩⟩⟩
theorem mvp24_14 : xMV 24 116 20 iX17_hull 0 := ⟨kX17_hull, q2434, _, _, _, rfl, Or.inl ⟨q2435, Or.inl q2464⟩⟩
theorem mvo24 : ∀ e ∈ mvT24, xMV 24 e.1 e.2.1 e.2.2.1 e.2.2.2 := List.forall_mem_cons.mpr ⟨mvp24_0, List.forall_mem_cons.mpr ⟨mvp24_1, List.forall_mem_cons.mpr ⟨mvp24_2, List.forall_mem_cons.mpr ⟨mvp24_3, List.forall_mem_cons.mpr ⟨mvp24_4, List.forall_mem_cons.mpr ⟨mvp24_5, List.forall_mem_cons.mpr ⟨mvp24_6, List.forall_mem_cons.mpr ⟨mvp24_7, List.forall_mem_cons.mpr ⟨mvp24_8, List.forall_mem_cons.mpr ⟨mvp24_9, List.forall_mem_cons.mpr ⟨mvp24_10, List.forall_mem_cons.mpr ⟨mvp24_11, List.forall_mem_cons.mpr ⟨mvp24_12, List.forall_mem_cons.mpr ⟨mvp24_13, List.forall_mem_cons.mpr ⟨mvp24_14, (fun _ h => by cases h)⟩⟩⟩⟩⟩⟩⟩⟩⟩⟩⟩⟩⟩⟩⟩
def mvT25 : List (Nat × Nat × xI × Nat) := [(22, 1, iX2_at, 1), (26, 7, iJ10_append, 1), (30, 7, iJ10_toString, 0)]
theorem mvp25_0 : xMV 25 22 1 iX2_at 1 := ⟨kX2_at, q326, _, _, _, rfl, Or.inl ⟨q327, Or.inl q405⟩⟩
theorem mvp25_1 : xMV 25 26 7 iJ10_append 1 := ⟨kJ10_append, q407, _, _, _, rfl, Or.inl ⟨q408, Or.inl q406⟩⟩
theorem mvp25_2 : xMV 25 30 7 iJ10_toString 0 := ⟨kJ10_toString, q502, _, _, _, rfl, Or.inl ⟨q503, Or.inl q501⟩⟩
theorem mvo25 : ∀ e ∈ mvT25, xMV 25 e.1 e.2.1 e.2.2.1 e.2.2.2 := List.forall_mem_cons.mpr ⟨mvp25_0, List.forall_mem_cons.mpr ⟨mvp25_1, List.forall_mem_cons.mpr ⟨mvp25_2, (fun _ h => by cases h)⟩⟩⟩
def mvT26 : List (Nat × Nat × xI × Nat) := []
theorem mvo26 : ∀ e ∈ mvT26, xMV 26 e.1 e.2.1 e.2.2.1 e.2.2.2 := (fun _ h => by cases h)
def mvT27 : List (Nat × Nat × xI × Nat) := []
theorem mvo27 : ∀ e ∈ mvT27, xMV 27 e.1 e.2.1 e.2.2.1 e.2.2.2 := (fun _ h => by cases h)
def mvT28 : List (Nat × Nat × xI × Nat) := [(29, 8, iJ11_equals, 1), (35, 8, iJ11_length, 0), (39, 8, iJ11_charAt, 1)]
theorem mvp28_0 : xMV 28 29 8 iJ11_equals 1 := ⟨kJ11_equals, q714, _, _, _, rfl, Or.inl ⟨q715, Or.inl q968⟩⟩
theorem mvp28_1 : xMV 28 35 8 iJ11_length 0 := ⟨kJ11_length, q632, _, _, _, rfl, Or.inl ⟨q633, Or.inl q1528⟩⟩
theorem mvp28_2 : xMV 28 39 8 iJ11_charAt 1 := ⟨kJ11_charAt, q1530, _, _, _, rfl, Or.inl ⟨q1531, Or.inl q1529⟩⟩
theorem mvo28 : ∀ e ∈ mvT28, xMV 28 e.1 e.2.1 e.2.2.1 e.2.2.2 := List.forall_mem_cons.mpr ⟨mvp28_0, List.forall_mem_cons.mpr ⟨mvp28_1, List.forall_mem_cons.mpr ⟨mvp28_2, (fun _ h => by cases h)⟩⟩⟩
def mvT29 : List (Nat × Nat × xI × Nat) := [(13, 13, iX12_of, 1), (13, 16, iX13_of, 1), (13, 17, iX14_of, 1), (13, 18, iX15_of, 1), (13, 19, iX16_of, 1)]
theorem mvp29_0 : xMV 29 13 13 iX12_of 1 := ⟨kX12_of, q1756, _, _, _, rfl, Or.inr ⟨_, _, q1784, q1760, q1691, ⟨by decide +kernel, by decide +kernel⟩, by decide +kernel, Or.inl q1690⟩⟩
theorem mvp29_1 : xMV 29 13 16 iX13_of 1 := ⟨kX13_of, q1729, _, _, _, rfl, Or.inr ⟨_, _, q1728, q1760, q1691, ⟨by decide +kernel, by decide +kernel⟩, by decide +kernel, Or.inl q1690⟩⟩
theorem mvp29_2 : xMV 29 13 17 iX14_of 1 := ⟨kX14_of, q1693, _, _, _, rfl, Or.inr ⟨_, _, q1692, q1760, q1691, ⟨by decide +kernel, by decide +kernel⟩, by decide +kernel, Or.inl q1690⟩⟩
theorem mvp29_3 : xMV 29 13 18 iX15_of 1 := ⟨kX15_of, q1758, _, _, _, rfl, Or.inr ⟨_, _, q1785, q1760, q1691, ⟨by decide +kernel, by decide +kernel⟩, by decide +kernel, Or.inl q1690⟩⟩
theorem mvp29_4 : xMV 29 13 19 iX16_of 1 := ⟨kX16_of, q1753, _, _, _, rfl, Or.inr ⟨_, _, q1752, q1760, q1691, ⟨by decide +kernel, by decide +kernel⟩, by decide +kernel, Or.inl q1690⟩⟩
theorem mvo29 : ∀ e ∈ mvT29, xMV 29 e.1 e.2.1 e.2.2.1 e.2.2.2 := List.forall_mem_cons.mpr ⟨mvp29_0, List.forall_mem_cons.mpr ⟨mvp29_1, List.forall_mem_cons.mpr ⟨mvp29_2, List.forall_mem_cons.mpr ⟨mvp29_3, List.forall_mem_cons.mpr ⟨mvp29_4, (fun _ h => by cases h)⟩⟩⟩⟩⟩
def mvT30 : List (Nat × Nat × xI × Nat) := []
theorem mvo30 : ∀ e ∈ mvT30, xMV 30 e.1 e.2.1 e.2.2.1 e.2.2.2 := (fun _ h => by cases h)
def mvT31 : List (Nat × Nat × xI × Nat) := []
theorem mvo31 : ∀ e ∈ mvT31, xMV 31 e.1 e.2.1 e.2.2.1 e.2.2.2 := (fun _ h => by cases h)
def mvT32 : List (Nat × Nat × xI × Nat) := [(13, 3, iJ2_get, 1), (21, 20, iX17_area, 0)]
theorem mvp32_0 : xMV 32 13 3 iJ2_get 1 := ⟨kJ2_get, q944, _, _, _, rfl, Or.inl ⟨q3303, Or.inl q1707⟩⟩
theorem mvp32_1 : xMV 32 21 20 iX17_area 0 := ⟨kX17_area, q1710, _, _, _, rfl, Or.inl ⟨q1711, Or.inl q1709⟩⟩
theorem mvo32 : ∀ e ∈ mvT32, xMV 32 e.1 e.2.1 e.2.2.1 e.2.2.2 := List.forall_mem_cons.mpr ⟨mvp32_0, List.forall_mem_cons.mpr ⟨mvp32_1, (fun _ h => by cases h)⟩⟩
def mvT33 : List (Nat × Nat × xI × Nat) := [(7, 0, iX1_feed, 5), (15, 0, iX1_trim, 1), (21, 0, iX1_count, 1), (26, 0, iX1_point, 2), (30, 0, iX1_shape, 2), (33, 0, iX1_corner, 2), (36, 0, iX1_lies, 2), (39, 0, iX1_crosses, 2), (42, 0, iX1_hull, 2), (45, 0, iX1_hullCorner, 2), (48, 0, iX1_nearest, 2), (51, 0, iX1_enter, 2), (54, 0, iX1_put, 3), (58, 0, iX1_carry, 1), (62, 0, iX1_undo, 0), (66, 0, iX1_step, 2), (69, 0, iX1_would, 1), (72, 0, iX1_without, 1), (84, 33, iX4_feed, 5), (85, 33, iX4_thrown, 0), (91, 33, iX4_trim, 1), (92, 0, iX1_teach, 0), (95, 33, iX4_teach, 0), (96, 0, iX1_errorAt, 0), (99, 33, iX4_errorAt, 0), (102, 33, iX4_count, 1), (106, 33, iX4_point, 2), (109, 33, iX4_shape, 2), (112, 33, iX4_corner, 2), (115, 33, iX4_lies, 2), (118, 33, iX4_crosses, 2), (121, 33, iX4_hull, 2), (124, 33, iX4_hullCorner, 2), (127, 33, iX4_nearest, 2), (130, 33, iX4_enter_2, 2), (134, 33, iX4_put, 3), (137, 33, iX4_carry, 1), (138, 0, iX1_run, 0), (141, 33, iX4_run, 0), (145, 33, iX4_undo, 0), (148, 33, iX4_step, 2), (151, 33, iX4_would, 1), (154, 33, iX4_without, 1), (155, 0, iX1_mean, 0), (159, 33, iX4_mean, 0), (160, 0, iX1_digest, 0), (164, 33, iX4_digest, 0)]
theorem mvp33_0 : xMV 33 7 0 iX1_feed 5 := ⟨kX1_feed, q2500, _, _, _, rfl, Or.inl ⟨q2501, Or.inl q2499⟩⟩
theorem mvp33_1 : xMV 33 15 0 iX1_trim 1 := ⟨kX1_trim, q2530, _, _, _, rfl, Or.inl ⟨q2531, Or.inl q2529⟩⟩
theorem mvp33_2 : xMV 33 21 0 iX1_count 1 := ⟨kX1_count, q2361, _, _, _, rfl, Or.inl ⟨q2362, Or.inl q2566⟩⟩
theorem mvp33_3 : xMV 33 26 0 iX1_point 2 := ⟨kX1_point, q2571, _, _, _, rfl, Or.inl ⟨q2572, Or.inl q2570⟩⟩
theorem mvp33_4 : xMV 33 30 0 iX1_shape 2 := ⟨kX1_shape, q2578, _, _, _, rfl, Or.inl ⟨q2579, Or.inl q2577⟩⟩
theorem mvp33_5 : xMV 33 33 0 iX1_corner 2 := ⟨kX1_corner, q2590, _, _, _, rfl, Or.inl ⟨q2591, Or.inl q2589⟩⟩
theorem mvp33_6 : xMV 33 36 0 iX1_lies 2 := ⟨kX1_lies, q2597, _, _, _, rfl, Or.inl ⟨q2598, Or.inl q2596⟩⟩
theorem mvp33_7 : xMV 33 39 0 iX1_crosses 2 := ⟨kX1_crosses, q2605, _, _, _, rfl, Or.inl ⟨q2606, Or.inl q2604⟩⟩
theorem mvp33_8 : xMV 33 42 0 iX1_hull 2 := ⟨kX1_hull, q2612, _, _, _, rfl, Or.inl ⟨q2613, Or.inl q2611⟩⟩
theorem mvp33_9 : xMV 33 45 0 iX1_hullCorner 2 := ⟨kX1_hullCorner, q2619, _, _, _, rfl, Or.inl ⟨q2620, Or.inl q2618⟩⟩
theorem mvp33_10 : xMV 33 48 0 iX1_nearest 2 := ⟨kX1_nearest, q2626, _, _, _, rfl, Or.inl ⟨q2627, Or.inl q2625⟩⟩
theorem mvp33_11 : xMV 33 51 0 iX1_enter 2 := ⟨kX1_enter, q2634, _, _, _, rfl, Or.inl ⟨q2635, Or.inl q2633⟩⟩
theorem mvp33_12 : xMV 33 54 0 iX1_put 3 := ⟨kX1_put, q2641, _, _, _, rfl, Or.inl ⟨q2642, Or.inl q2640⟩⟩
theorem mvp33_13 : xMV 33 58 0 iX1_carry 1 := ⟨kX1_carry, q2649, _, _, _, rfl, Or.inl ⟨q2650, Or.inl q2648⟩⟩
theorem mvp33_14 : xMV 33 62 0 iX1_undo 0 := ⟨kX1_undo, q2657, _, _, _, rfl, Or.inl ⟨q2658, Or.inl q2656⟩⟩
theorem mvp33_15 : xMV 33 66 0 iX1_step 2 := ⟨kX1_step, q2670, _, _, _, rfl, Or.inl ⟨q2671, Or.inl q2669⟩⟩
theorem mvp33_16 : xMV 33 69 0 iX1_would 1 := ⟨kX1_would, q2677, _, _, _, rfl, Or.inl ⟨q2678, Or.inl q2676⟩⟩
theorem mvp33_17 : xMV 33 72 0 iX1_without 1 := ⟨kX1_without, q2710, _, _, _, rfl, Or.inl ⟨q2711, Or.inl q2709⟩⟩
theorem mvp33_18 : xMV 33 84 33 iX4_feed 5 := ⟨kX4_feed, q2855, _, _, _, rfl, Or.inl ⟨q2856, Or.inl q2854⟩⟩
theorem mvp33_19 : xMV 33 85 33 iX4_thrown 0 := ⟨kX4_thrown, q2851, _, _, _, rfl, Or.inl ⟨q2852, Or.inl q2850⟩⟩
theorem mvp33_20 : xMV 33 91 33 iX4_trim 1 := ⟨kX4_trim, q2863, _, _, _, rfl, Or.inl ⟨q2864, Or.inl q2862⟩⟩
theorem mvp33_21 : xMV 33 92 0 iX1_teach 0 := ⟨kX1_teach, q300, _, _, _, rfl, Or.inl ⟨q301, Or.inl q299⟩⟩
theorem mvp33_22 : xMV 33 95 33 iX4_teach 0 := ⟨kX4_teach, q2870, _, _, _, rfl, Or.inl ⟨q2871, Or.inl q2869⟩⟩
theorem mvp33_23 : xMV 33 96 0 iX1_errorAt 0 := ⟨kX1_errorAt, q2166, _, _, _, rfl, Or.inl ⟨q2167, Or.inl q2165⟩⟩
theorem mvp33_24 : xMV 33 99 33 iX4_errorAt 0 := ⟨kX4_errorAt, q3057, _, _, _, rfl, Or.inl ⟨q3058, Or.inl q3056⟩⟩
theorem mvp33_25 : xMV 33 102 33 iX4_count 1 := ⟨kX4_count, q3061, _, _, _, rfl, Or.inl ⟨q3062, Or.inl q3060⟩⟩
theorem mvp33_26 : xMV 33 106 33 iX4_point 2 := ⟨kX4_point, q3101, _, _, _, rfl, Or.inl ⟨q3102, Or.inl q3100⟩⟩
theorem mvp33_27 : xMV 33 109 33 iX4_shape 2 := ⟨kX4_shape, q3117, _, _, _, rfl, Or.inl ⟨q3118, Or.inl q3116⟩⟩
theorem mvp33_28 : xMV 33 112 33 iX4_corner 2 := ⟨kX4_corner, q3141, _, _, _, rfl, Or.inl ⟨q3142, Or.inl q3140⟩⟩
theorem mvp33_29 : xMV 33 115 33 iX4_lies 2 := ⟨kX4_lies, q3145, _, _, _, rfl, Or.inl ⟨q3146, Or.inl q3144⟩⟩
theorem mvp33_30 : xMV 33 118 33 iX4_crosses 2 := ⟨kX4_crosses, q3149, _, _, _, rfl, Or.inl ⟨q3150, Or.inl q3148⟩⟩
theorem mvp33_31 : xMV 33 121 33 iX4_hull 2 := ⟨kX4_hull, q3153, _, _, _, rfl, Or.inl ⟨q3154, Or.inl q3152⟩⟩
theorem mvp33_32 : xMV 33 124 33 iX4_hullCorner 2 := ⟨kX4_hullCorner, q3189, _, _, _, rfl, Or.inl ⟨q3190, Or.inl q3188⟩⟩
theorem mvp33_33 : xMV 33 127 33 iX4_nearest 2 := ⟨kX4_nearest, q3193, _, _, _, rfl, Or.inl ⟨q3194, Or.inl q3192⟩⟩
theorem mvp33_34 : xMV 33 130 33 iX4_enter_2 2 := ⟨kX4_enter_2, q3197, _, _, _, rfl, Or.inl ⟨q3198, Or.inl q3196⟩⟩
theorem mvp33_35 : xMV 33 134 33 iX4_put 3 := ⟨kX4_put, q3205, _, _, _, rfl, Or.inl ⟨q3206, Or.inl q3204⟩⟩
theorem mvp33_36 : xMV 33 137 33 iX4_carry 1 := ⟨kX4_carry, q3218, _, _, _, rfl, Or.inl ⟨q3219, Or.inl q3217⟩⟩
theorem mvp33_37 : xMV 33 138 0 iX1_run 0 := ⟨kX1_run, q2170, _, _, _, rfl, Or.inl ⟨q2171, Or.inl q2169⟩⟩
theorem mvp33_38 : xMV 33 141 33 iX4_run 0 := ⟨kX4_run, q3254, _, _, _, rfl, Or.inl ⟨q3255, Or.inl q3253⟩⟩
theorem mvp33_39 : xMV 33 145 33 iX4_undo 0 := ⟨kX4_undo, q3258, _, _, _, rfl, Or.inl ⟨q3259, Or.inl q3257⟩⟩
theorem mvp33_40 : xMV 33 148 33 iX4_step 2 := ⟨kX4_step, q3262, _, _, _, rfl, Or.inl ⟨q3263, Or.inl q3261⟩⟩
theorem mvp33_41 : xMV 33 151 33 iX4_would 1 := ⟨kX4_would, q3270, _, _, _, rfl, Or.inl ⟨q3271, Or.inl q3269⟩⟩
theorem mvp33_42 : xMV 33 154 33 iX4_without 1 := ⟨kX4_without, q3278, _, _, _, rfl, Or.inl ⟨q3279, Or.inl q3277⟩⟩
theorem mvp33_43 : xMV 33 155 0 iX1_mean 0 := ⟨kX1_mean, q2293, _, _, _, rfl, Or.inl ⟨q2294, Or.inl q2292⟩⟩
theorem mvp33_44 : xMV 33 159 33 iX4_mean 0 := ⟨kX4_mean, q3282, _, _, _, rfl, Or.inl ⟨q3283, Or.inl q3281⟩⟩
theorem mvp33_45 : xMV 33 160 0 iX1_digest 0 := ⟨kX1_digest, q2355, _, _, _, rfl, Or.inl ⟨q2356, Or.inl q2354⟩⟩
theorem mvp33_46 : xMV 33 164 33 iX4_digest 0 := ⟨kX4_digest, q3286, _, _, _, rfl, Or.inl ⟨q3287, Or.inl q3285⟩⟩
theorem mvo33 : ∀ e ∈ mvT33, xMV 33 e.1 e.2.1 e.2.2.1 e.2.2.2 := List.forall_mem_cons.mpr ⟨mvp33_0, List.forall_mem_cons.mpr ⟨mvp33_1, List.forall_mem_cons.mpr ⟨mvp33_2, List.forall_mem_cons.mpr ⟨mvp33_3, List.forall_mem_cons.mpr ⟨mvp33_4, List.forall_mem_cons.mpr ⟨mvp33_5, List.forall_mem_cons.mpr ⟨mvp33_6, List.forall_mem_cons.mpr ⟨mvp33_7, List.forall_mem_cons.mpr ⟨mvp33_8, List.forall_mem_cons.mpr ⟨mvp33_9, List.forall_mem_cons.mpr ⟨mvp33_10, List.forall_mem_cons.mpr ⟨mvp33_11, List.forall_mem_cons.mpr ⟨mvp33_12, List.forall_mem_cons.mpr ⟨mvp33_13, List.forall_mem_cons.mpr ⟨mvp33_14, List.forall_mem_cons.mpr ⟨mvp33_15, List.forall_mem_cons.mpr ⟨mvp33_16, List.forall_mem_cons.mpr ⟨mvp33_17, List.forall_mem_cons.mpr ⟨mvp33_18, List.forall_mem_cons.mpr ⟨mvp33_19, List.forall_mem_cons.mpr ⟨mvp33_20, List.forall_mem_cons.mpr ⟨mvp33_21, List.forall_mem_cons.mpr ⟨mvp33_22, List.forall_mem_cons.mpr ⟨mvp33_23, List.forall_mem_cons.mpr ⟨mvp33_24, List.forall_mem_cons.mpr ⟨mvp33_25, List.forall_mem_cons.mpr ⟨mvp33_26, List.forall_mem_cons.mpr ⟨mvp33_27, List.forall_mem_cons.mpr ⟨mvp33_28, List.forall_mem_cons.mpr ⟨mvp33_29, List.forall_mem_cons.mpr ⟨mvp33_30, List.forall_mem_cons.mpr ⟨mvp33_31, List.forall_mem_cons.mpr ⟨mvp33_32, List.forall_mem_cons.mpr ⟨mvp33_33, List.forall_mem_cons.mpr ⟨mvp33_34, List.forall_mem_cons.mpr ⟨mvp33_35, List.forall_mem_cons.mpr ⟨mvp33_36, List.forall_mem_cons.mpr ⟨mvp33_37, List.forall_mem_cons.mpr ⟨mvp33_38, List.forall_mem_cons.mpr ⟨mvp33_39, List.forall_mem_cons.mpr ⟨mvp33_40, List.forall_mem_cons.mpr ⟨mvp33_41, List.forall_mem_cons.mpr ⟨mvp33_42, List.forall_mem_cons.mpr ⟨mvp33_43, List.forall_mem_cons.mpr ⟨mvp33_44, List.forall_mem_cons.mpr ⟨mvp33_45, List.forall_mem_cons.mpr ⟨mvp33_46, (fun _ h => by cases h)⟩⟩⟩⟩⟩⟩⟩⟩⟩⟩⟩⟩⟩⟩⟩⟩⟩⟩⟩⟩⟩⟩⟩⟩⟩⟩⟩⟩⟩⟩⟩⟩⟩⟩⟩⟩⟩⟩⟩⟩⟩⟩⟩⟩⟩⟩⟩
def mvT34 : List (Nat × Nat × xI × Nat) := [(91, 33, iX4_side, 4), (95, 33, iX4_cornerOf, 2), (99, 33, iX4_signedArea, 1), (106, 33, iX4_sideOf, 3), (114, 33, iX4_doCross, 4), (122, 33, iX4_isBetween, 3), (125, 33, iX4_liesAt, 3), (137, 33, iX4_both, 0), (141, 33, iX4_goesBy, 1), (145, 33, iX4_single, 0), (148, 33, iX4_test, 0), (151, 33, iX4_meant, 0), (155, 33, iX4_liesOf, 2), (158, 33, iX4_sum, 0), (161, 33, iX4_product, 0), (164, 33, iX4_value, 0), (167, 33, iX4_areaOf, 1), (170, 33, iX4_crossings, 2), (176, 33, iX4_testOf, 1), (179, 33, iX4_holds, 1), (186, 33, iX4_go, 1), (195, 35, iX6_become, 1), (199, 33, iX4_isEarlier, 2), (205, 33, iX4_nextOf, 2), (208, 33, iX4_areSame, 2), (211, 33, iX4_square, 2), (214, 33, iX4_wrap, 1), (218, 33, iX4_hullArea, 0), (221, 33, iX4_widest, 1), (227, 33, iX4_byteOf, 1), (239, 33, iX4_word, 2), (244, 8, iJ11_indexOf, 1), (253, 8, iJ11_length, 0), (256, 8, iJ11_charAt, 1), (263, 33, iX4_kindAt, 3), (273, 33, iX4_eat, 2), (277, 33, iX4_isLine, 1), (281, 33, iX4_areSums, 1), (284, 33, iX4_isShapeLine, 1), (287, 33, iX4_mayTest, 1), (290, 33, iX4_isSum, 1), (293, 33, iX4_isTest, 1), (296, 33, iX4_isBoth, 1), (299, 33, iX4_isSingle, 1), (302, 33, iX4_enter, 2), (306, 33, iX4_leave, 2), (309, 33, iX4_isProduct, 1), (312, 33, iX4_isValue, 1), (318, 7, iJ10_append, 1), (322, 7, iJ10_toString, 0), (326, 8, iJ11_equals, 1), (334, 33, iX4_text, 2), (353, 33, iX4_errorOfCorner, 2), (357, 33, iX4_errorOfName, 2), (360, 33, iX4_number, 2), (363, 33, iX4_end, 2), (367, 33, iX4_cutIntoTokens, 1), (371, 33, iX4_isList, 1), (374, 33, iX4_errorOf, 3), (378, 33, iX4_no, 1), (381, 33, iX4_read, 2), (388, 33, iX4_shapesAround, 1), (391, 33, iX4_areas, 0), (394, 33, iX4_allCrossings, 0), (397, 33, iX4_insiders, 0), (400, 33, iX4_look, 1), (403, 33, iX4_counted, 1), (406, 33, iX4_cornersAt, 1), (409, 33, iX4_isPoint, 1), (412, 33, iX4_pointTold, 2), (423, 33, iX4_gridPoints, 1), (426, 33, iX4_neverRight, 1), (429, 33, iX4_isShape, 1), (432, 33, iX4_shapeTold, 2), (435, 33, iX4_hullTold, 2), (438, 33, iX4_entersBy, 3), (441, 33, iX4_keep, 1), (444, 33, iX4_isStep, 1), (447, 33, iX4_stepTold, 2), (450, 33, iX4_goAll, 1)]
theorem mvp34_0 : xMV 34 91 33 iX4_side 4 := ⟨kX4_side, q3042, _, _, _, rfl, Or.inl ⟨qs74, Or.inl q3040⟩⟩
theorem mvp34_1 : xMV 34 95 33 iX4_cornerOf 2 := ⟨kX4_cornerOf, q3025, _, _, _, rfl, Or.inl ⟨qs70, Or.inl q3023⟩⟩
theorem mvp34_2 : xMV 34 99 33 iX4_signedArea 1 := ⟨kX4_signedArea, q3021, _, _, _, rfl, Or.inl ⟨qs69, Or.inl q3019⟩⟩
theorem mvp34_3 : xMV 34 106 33 iX4_sideOf 3 := ⟨kX4_sideOf, q3038, _, _, _, rfl, Or.inl ⟨qs73, Or.inl q3036⟩⟩
theorem mvp34_4 : xMV 34 114 33 iX4_doCross 4 := ⟨kX4_doCross, q3034, _, _, _, rfl, Or.inl ⟨qs72, Or.inl q3032⟩⟩
theorem mvp34_5 : xMV 34 122 33 iX4_isBetween 3 := ⟨kX4_isBetween, q3098, _, _, _, rfl, Or.inl ⟨qs83, Or.inl q3096⟩⟩
theorem mvp34_6 : xMV 34 125 33 iX4_liesAt 3 := ⟨kX4_liesAt, q3094, _, _, _, rfl, Or.inl ⟨qs82, Or.inl q3092⟩⟩
theorem mvp34_7 : xMV 34 137 33 iX4_both 0 := ⟨kX4_both, q3243, _, _, _, rfl, Or.inl ⟨qs106, Or.inl q3241⟩⟩
theorem mvp34_8 : xMV 34 141 33 iX4_goesBy 1 := ⟨kX4_goesBy, q3251, _, _, _, rfl, Or.inl ⟨qs108, Or.inl q3249⟩⟩
theorem mvp34_9 : xMV 34 145 33 iX4_single 0 := ⟨kX4_single, q3247, _, _, _, rfl, Or.inl ⟨qs107, Or.inl q3245⟩⟩
theorem mvp34_10 : xMV 34 148 33 iX4_test 0 := ⟨kX4_test, q3239, _, _, _, rfl, Or.inl ⟨qs105, Or.inl q3237⟩⟩
theorem mvp34_11 : xMV 34 151 33 iX4_meant 0 := ⟨kX4_meant, q3013, _, _, _, rfl, Or.inl ⟨qs67, Or.inl q3011⟩⟩
theorem mvp34_12 : xMV 34 155 33 iX4_liesOf 2 := ⟨kX4_liesOf, q3090, _, _, _, rfl, Or.inl ⟨qs81, Or.inl q3088⟩⟩
theorem mvp34_13 : xMV 34 158 33 iX4_sum 0 := ⟨kX4_sum, q3001, _, _, _, rfl, Or.inl ⟨qs64, Or.inl q2999⟩⟩
theorem mvp34_14 : xMV 34 161 33 iX4_product 0 := ⟨kX4_product, q3005, _, _, _, rfl, Or.inl ⟨qs65, Or.inl q3003⟩⟩
theorem mvp34_15 : xMV 34 164 33 iX4_value 0 := ⟨kX4_value, q3009, _, _, _, rfl, Or.inl ⟨qs66, Or.inl q3007⟩⟩
theorem mvp34_16 : xMV 34 167 33 iX4_areaOf 1 := ⟨kX4_areaOf, q3017, _, _, _, rfl, Or.inl ⟨qs68, Or.inl q3015⟩⟩
theorem mvp34_17 : xMV 34 170 33 iX4_crossings 2 := ⟨kX4_crossings, q3030, _, _, _, rfl, Or.inl ⟨qs71, Or.inl q3028⟩⟩
theorem mvp34_18 : xMV 34 176 33 iX4_testOf 1 := ⟨kX4_testOf, q3235, _, _, _, rfl, Or.inl ⟨qs104, Or.inl q3233⟩⟩
theorem mvp34_19 : xMV 34 179 33 iX4_holds 1 := ⟨kX4_holds, q3231, _, _, _, rfl, Or.inl ⟨qs103, Or.inl q3229⟩⟩
theorem mvp34_20 : xMV 34 186 33 iX4_go 1 := ⟨kX4_go, q3227, _, _, _, rfl, Or.inl ⟨qs102, Or.inl q3225⟩⟩
theorem mvp34_21 : xMV 34 195 35 iX6_become 1 := ⟨kX6_become, q3213, _, _, _, rfl, Or.inl ⟨q3214, Or.inl q3212⟩⟩
theorem mvp34_22 : xMV 34 199 33 iX4_isEarlier 2 := ⟨kX4_isEarlier, q3166, _, _, _, rfl, Or.inl ⟨qs93, Or.inl q3164⟩⟩
theorem mvp34_23 : xMV 34 205 33 iX4_nextOf 2 := ⟨kX4_nextOf, q3170, _, _, _, rfl, Or.inl ⟨qs94, Or.inl q3168⟩⟩
theorem mvp34_24 : xMV 34 208 33 iX4_areSame 2 := ⟨kX4_areSame, q3174, _, _, _, rfl, Or.inl ⟨qs95, Or.inl q3172⟩⟩
theorem mvp34_25 : xMV 34 211 33 iX4_square 2 := ⟨kX4_square, q3178, _, _, _, rfl, Or.inl ⟨qs96, Or.inl q3176⟩⟩
theorem mvp34_26 : xMV 34 214 33 iX4_wrap 1 := ⟨kX4_wrap, q3162, _, _, _, rfl, Or.inl ⟨qs92, Or.inl q3160⟩⟩
theorem mvp34_27 : xMV 34 218 33 iX4_hullArea 0 := ⟨kX4_hullArea, q3182, _, _, _, rfl, Or.inl ⟨qs97, Or.inl q3180⟩⟩
theorem mvp34_28 : xMV 34 221 33 iX4_widest 1 := ⟨kX4_widest, q3186, _, _, _, rfl, Or.inl ⟨qs98, Or.inl q3184⟩⟩
theorem mvp34_29 : xMV 34 227 33 iX4_byteOf 1 := ⟨kX4_byteOf, q2883, _, _, _, rfl, Or.inl ⟨qs41, Or.inl q2881⟩⟩
theorem mvp34_30 : xMV 34 239 33 iX4_word 2 := ⟨kX4_word, q2897, _, _, _, rfl, Or.inl ⟨qs43, Or.inl q2895⟩⟩
theorem mvp34_31 : xMV 34 244 8 iJ11_indexOf 1 := ⟨kJ11_indexOf, q729, _, _, _, rfl, Or.inl ⟨q730, Or.inl q2904⟩⟩
theorem mvp34_32 : xMV 34 253 8 iJ11_length 0 := ⟨kJ11_length, q632, _, _, _, rfl, Or.inl ⟨q633, Or.inl q2901⟩⟩
theorem mvp34_33 : xMV 34 256 8 iJ11_charAt 1 := ⟨kJ11_charAt, q1530, _, _, _, rfl, Or.inl ⟨q1531, Or.inl q2902⟩⟩
theorem mvp34_34 : xMV 34 263 33 iX4_kindAt 3 := ⟨kX4_kindAt, q2887, _, _, _, rfl, Or.inl ⟨qs42, Or.inl q2885⟩⟩
theorem mvp34_35 : xMV 34 273 33 iX4_eat 2 := ⟨kX4_eat, q2915, _, _, _, rfl, Or.inl ⟨qs46, Or.inl q2913⟩⟩
theorem mvp34_36 : xMV 34 277 33 iX4_isLine 1 := ⟨kX4_isLine, q2911, _, _, _, rfl, Or.inl ⟨qs45, Or.inl q2909⟩⟩
theorem mvp34_37 : xMV 34 281 33 iX4_areSums 1 := ⟨kX4_areSums, q2919, _, _, _, rfl, Or.inl ⟨qs47, Or.inl q2917⟩⟩
theorem mvp34_38 : xMV 34 284 33 iX4_isShapeLine 1 := ⟨kX4_isShapeLine, q2943, _, _, _, rfl, Or.inl ⟨qs53, Or.inl q2941⟩⟩
theorem mvp34_39 : xMV 34 287 33 iX4_mayTest 1 := ⟨kX4_mayTest, q2947, _, _, _, rfl, Or.inl ⟨qs54, Or.inl q2945⟩⟩
theorem mvp34_40 : xMV 34 290 33 iX4_isSum 1 := ⟨kX4_isSum, q2923, _, _, _, rfl, Or.inl ⟨qs48, Or.inl q2921⟩⟩
theorem mvp34_41 : xMV 34 293 33 iX4_isTest 1 := ⟨kX4_isTest, q2951, _, _, _, rfl, Or.inl ⟨qs55, Or.inl q2949⟩⟩
theorem mvp34_42 : xMV 34 296 33 iX4_isBoth 1 := ⟨kX4_isBoth, q2955, _, _, _, rfl, Or.inl ⟨qs56, Or.inl q2953⟩⟩
theorem mvp34_43 : xMV 34 299 33 iX4_isSingle 1 := ⟨kX4_isSingle, q2959, _, _, _, rfl, Or.inl ⟨qs57, Or.inl q2957⟩⟩
theorem mvp34_44 : xMV 34 302 33 iX4_enter 2 := ⟨kX4_enter, q2935, _, _, _, rfl, Or.inl ⟨qs51, Or.inl q2933⟩⟩
theorem mvp34_45 : xMV 34 306 33 iX4_leave 2 := ⟨kX4_leave, q2939, _, _, _, rfl, Or.inl ⟨qs52, Or.inl q2937⟩⟩
theorem mvp34_46 : xMV 34 309 33 iX4_isProduct 1 := ⟨kX4_isProduct, q2927, _, _, _, rfl, Or.inl ⟨qs49, Or.inl q2925⟩⟩
theorem mvp34_47 : xMV 34 312 33 iX4_isValue 1 := ⟨kX4_isValue, q2931, _, _, _, rfl, Or.inl ⟨qs50, Or.inl q2929⟩⟩
theorem mvp34_48 : xMV 34 318 7 iJ10_append 1 := ⟨kJ10_append, q407, _, _, _, rfl, Or.inl ⟨q408, Or.inl q2975⟩⟩
theorem mvp34_49 : xMV 34 322 7 iJ10_toString 0 := ⟨kJ10_toString, q502, _, _, _, rfl, Or.inl ⟨q503, Or.inl q2976⟩⟩
theorem mvp34_50 : xMV 34 326 8 iJ11_equals 1 := ⟨kJ11_equals, q714, _, _, _, rfl, Or.inl ⟨q715, Or.inl q2983⟩⟩
theorem mvp34_51 : xMV 34 334 33 iX4_text 2 := ⟨kX4_text, q2971, _, _, _, rfl, Or.inl ⟨qs60, Or.inl q2969⟩⟩
theorem mvp34_52 : xMV 34 353 33 iX4_errorOfCorner 2 := ⟨kX4_errorOfCorner, q2989, _, _, _, rfl, Or.inl ⟨qs61, Or.inl q2987⟩⟩
theorem mvp34_53 : xMV 34 357 33 iX4_errorOfName 2 := ⟨kX4_errorOfName, q2967, _, _, _, rfl, Or.inl ⟨qs59, Or.inl q2965⟩⟩
theorem mvp34_54 : xMV 34 360 33 iX4_number 2 := ⟨kX4_number, q2993, _, _, _, rfl, Or.inl ⟨qs62, Or.inl q2991⟩⟩
theorem mvp34_55 : xMV 34 363 33 iX4_end 2 := ⟨kX4_end, q2997, _, _, _, rfl, Or.inl ⟨qs63, Or.inl q2995⟩⟩
theorem mvp34_56 : xMV 34 367 33 iX4_cutIntoTokens 1 := ⟨kX4_cutIntoTokens, q2879, _, _, _, rfl, Or.inl ⟨qs40, Or.inl q2877⟩⟩
theorem mvp34_57 : xMV 34 371 33 iX4_isList 1 := ⟨kX4_isList, q2907, _, _, _, rfl, Or.inl ⟨qs44, Or.inl q2905⟩⟩
theorem mvp34_58 : xMV 34 374 33 iX4_errorOf 3 := ⟨kX4_errorOf, q2963, _, _, _, rfl, Or.inl ⟨qs58, Or.inl q2961⟩⟩
theorem mvp34_59 : xMV 34 378 33 iX4_no 1 := ⟨kX4_no, q2860, _, _, _, rfl, Or.inl ⟨qs38, Or.inl q2858⟩⟩
theorem mvp34_60 : xMV 34 381 33 iX4_read 2 := ⟨kX4_read, q2875, _, _, _, rfl, Or.inl ⟨qs39, Or.inl q2873⟩⟩
theorem mvp34_61 : xMV 34 388 33 iX4_shapesAround 1 := ⟨kX4_shapesAround, q3086, _, _, _, rfl, Or.inl ⟨qs80, Or.inl q3084⟩⟩
theorem mvp34_62 : xMV 34 391 33 iX4_areas 0 := ⟨kX4_areas, q3074, _, _, _, rfl, Or.inl ⟨qs77, Or.inl q3072⟩⟩
theorem mvp34_63 : xMV 34 394 33 iX4_allCrossings 0 := ⟨kX4_allCrossings, q3078, _, _, _, rfl, Or.inl ⟨qs78, Or.inl q3076⟩⟩
theorem mvp34_64 : xMV 34 397 33 iX4_insiders 0 := ⟨kX4_insiders, q3082, _, _, _, rfl, Or.inl ⟨qs79, Or.inl q3080⟩⟩
theorem mvp34_65 : xMV 34 400 33 iX4_look 1 := ⟨kX4_look, q3066, _, _, _, rfl, Or.inl ⟨qs75, Or.inl q3064⟩⟩
theorem mvp34_66 : xMV 34 403 33 iX4_counted 1 := ⟨kX4_counted, q3070, _, _, _, rfl, Or.inl ⟨qs76, Or.inl q3068⟩⟩
theorem mvp34_67 : xMV 34 406 33 iX4_cornersAt 1 := ⟨kX4_cornersAt, q3114, _, _, _, rfl, Or.inl ⟨qs86, Or.inl q3112⟩⟩
theorem mvp34_68 : xMV 34 409 33 iX4_isPoint 1 := ⟨kX4_isPoint, q3106, _, _, _, rfl, Or.inl ⟨qs84, Or.inl q3104⟩⟩
theorem mvp34_69 : xMV 34 412 33 iX4_pointTold 2 := ⟨kX4_pointTold, q3110, _, _, _, rfl, Or.inl ⟨qs85, Or.inl q3108⟩⟩
theorem mvp34_70 : xMV 34 423 33 iX4_gridPoints 1 := ⟨kX4_gridPoints, q3131, _, _, _, rfl, Or.inl ⟨qs89, Or.inl q3129⟩⟩
theorem mvp34_71 : xMV 34 426 33 iX4_neverRight 1 := ⟨kX4_neverRight, q3138, _, _, _, rfl, Or.inl ⟨qs90, Or.inl q3136⟩⟩
theorem mvp34_72 : xMV 34 429 33 iX4_isShape 1 := ⟨kX4_isShape, q3122, _, _, _, rfl, Or.inl ⟨qs87, Or.inl q3120⟩⟩
theorem mvp34_73 : xMV 34 432 33 iX4_shapeTold 2 := ⟨kX4_shapeTold, q3126, _, _, _, rfl, Or.inl ⟨qs88, Or.inl q3124⟩⟩
theorem mvp34_74 : xMV 34 435 33 iX4_hullTold 2 := ⟨kX4_hullTold, q3158, _, _, _, rfl, Or.inl ⟨qs91, Or.inl q3156⟩⟩
theorem mvp34_75 : xMV 34 438 33 iX4_entersBy 3 := ⟨kX4_entersBy, q3202, _, _, _, rfl, Or.inl ⟨qs99, Or.inl q3200⟩⟩
theorem mvp34_76 : xMV 34 441 33 iX4_keep 1 := ⟨kX4_keep, q3210, _, _, _, rfl, Or.inl ⟨qs100, Or.inl q3208⟩⟩
theorem mvp34_77 : xMV 34 444 33 iX4_isStep 1 := ⟨kX4_isStep, q3223, _, _, _, rfl, Or.inl ⟨qs101, Or.inl q3221⟩⟩
theorem mvp34_78 : xMV 34 447 33 iX4_stepTold 2 := ⟨kX4_stepTold, q3267, _, _, _, rfl, Or.inl ⟨qs109, Or.inl q3265⟩⟩
theorem mvp34_79 : xMV 34 450 33 iX4_goAll 1 := ⟨kX4_goAll, q3275, _, _, _, rfl, Or.inl ⟨qs110, Or.inl q3273⟩⟩
theorem mvo34 : ∀ e ∈ mvT34, xMV 34 e.1 e.2.1 e.2.2.1 e.2.2.2 := List.forall_mem_cons.mpr ⟨mvp34_0, List.forall_mem_cons.mpr ⟨mvp34_1, List.forall_mem_cons.mpr ⟨mvp34_2, List.forall_mem_cons.mpr ⟨mvp34_3, List.forall_mem_cons.mpr ⟨mvp34_4, List.forall_mem_cons.mpr ⟨mvp34_5, List.forall_mem_cons.mpr ⟨mvp34_6, List.forall_mem_cons.mpr ⟨mvp34_7, List.forall_mem_cons.mpr ⟨mvp34_8, List.forall_mem_cons.mpr ⟨mvp34_9, List.forall_mem_cons.mpr ⟨mvp34_10, List.forall_mem_cons.mpr ⟨mvp34_11, List.forall_mem_cons.mpr ⟨mvp34_12, List.forall_mem_cons.mpr ⟨mvp34_13, List.forall_mem_cons.mpr ⟨mvp34_14, List.forall_mem_cons.mpr ⟨mvp34_15, List.forall_mem_cons.mpr ⟨mvp34_16, List.forall_mem_cons.mpr ⟨mvp34_17, List.forall_mem_cons.mpr ⟨mvp34_18, List.forall_mem_cons.mpr ⟨mvp34_19, List.forall_mem_cons.mpr ⟨mvp34_20, List.forall_mem_cons.mpr ⟨mvp34_21, List.forall_mem_cons.mpr ⟨mvp34_22, List.forall_mem_cons.mpr ⟨mvp34_23, List.forall_mem_cons.mpr ⟨mvp34_24, List.forall_mem_cons.mpr ⟨mvp34_25, List.forall_mem_cons.mpr ⟨mvp34_26, List.forall_mem_cons.mpr ⟨mvp34_27, List.forall_mem_cons.mpr ⟨mvp34_28, List.forall_mem_cons.mpr ⟨mvp34_29, List.forall_mem_cons.mpr ⟨mvp34_30, List.forall_mem_cons.mpr ⟨mvp34_31, List.forall_mem_cons.mpr ⟨mvp34_32, List.forall_mem_cons.mpr ⟨mvp34_33, List.forall_mem_cons.mpr ⟨mvp34_34, List.forall_mem_cons.mpr ⟨mvp34_35, List.forall_mem_cons.mpr ⟨mvp34_36, List.forall_mem_cons.mpr ⟨mvp34_37, List.forall_mem_cons.mpr ⟨mvp34_38, List.forall_mem_cons.mpr ⟨mvp34_39, List.forall_mem_cons.mpr ⟨mvp34_40, List.forall_mem_cons.mpr ⟨mvp34_41, List.forall_mem_cons.mpr ⟨mvp34_42, List.forall_mem_cons.mpr ⟨mvp34_43, List.forall_mem_cons.mpr ⟨mvp34_44, List.forall_mem_cons.mpr ⟨mvp34_45, List.forall_mem_cons.mpr ⟨mvp34_46, List.forall_mem_cons.mpr ⟨mvp34_47, List.forall_mem_cons.mpr ⟨mvp34_48, List.forall_mem_cons.mpr ⟨mvp34_49, List.forall_mem_cons.mpr ⟨mvp34_50, List.forall_mem_cons.mpr ⟨mvp34_51, List.forall_mem_cons.mpr ⟨mvp34_52, List.forall_mem_cons.mpr ⟨mvp34_53, List.forall_mem_cons.mpr ⟨mvp34_54, List.forall_mem_cons.mpr ⟨mvp34_55, List.forall_mem_cons.mpr ⟨mvp34_56, List.forall_mem_cons.mpr ⟨mvp34_57, List.forall_mem_cons.mpr ⟨mvp34_58, List.forall_mem_cons.mpr ⟨mvp34_59, List.forall_mem_cons.mpr ⟨mvp34_60, List.forall_mem_cons.mpr ⟨mvp34_61, List.forall_mem_cons.mpr ⟨mvp34_62, List.forall_mem_cons.mpr ⟨mvp34_63, List.forall_mem_cons.mpr ⟨mvp34_64, List.forall_mem_cons.mpr ⟨mvp34_65, List.forall_mem_cons.mpr ⟨mvp34_66, List.forall_mem_cons.mpr ⟨mvp34_67, List.forall_mem_cons.mpr ⟨mvp34_68, List.forall_mem_cons.mpr ⟨mvp34_69, List.forall_mem_cons.mpr ⟨mvp34_70, List.forall_mem_cons.mpr ⟨mvp34_71, List.forall_mem_cons.mpr ⟨mvp34_72, List.forall_mem_cons.mpr ⟨mvp34_73, List.forall_mem_cons.mpr ⟨mvp34_74, List.forall_mem_cons.mpr ⟨mvp34_75, List.forall_mem_cons.mpr ⟨mvp34_76, List.forall_mem_cons.mpr ⟨mvp34_77, List.forall_mem_cons.mpr ⟨mvp34_78, List.forall_mem_cons.mpr ⟨mvp34_79, (fun _ h => by cases h)⟩⟩⟩⟩⟩⟩⟩⟩⟩⟩⟩⟩⟩⟩⟩⟩⟩⟩⟩⟩⟩⟩⟩⟩⟩⟩⟩⟩⟩⟩⟩⟩⟩⟩⟩⟩⟩⟩⟩⟩⟩⟩⟩⟩⟩⟩⟩⟩⟩⟩⟩⟩⟩⟩⟩⟩⟩⟩⟩⟩⟩⟩⟩⟩⟩⟩⟩⟩⟩⟩⟩⟩⟩⟩⟩⟩⟩⟩⟩⟩
def mvT35 : List (Nat × Nat × xI × Nat) := []
theorem mvo35 : ∀ e ∈ mvT35, xMV 35 e.1 e.2.1 e.2.2.1 e.2.2.2 := (fun _ h => by cases h)
def mvT36 : List (Nat × Nat × xI × Nat) := []
theorem mvo36 : ∀ e ∈ mvT36, xMV 36 e.1 e.2.1 e.2.2.1 e.2.2.2 := (fun _ h => by cases h)
def mvT37 : List (Nat × Nat × xI × Nat) := [(32, 8, iJ11_length, 0), (40, 8, iJ11_coder, 0), (83, 7, iJ9_isLatin1, 0), (399, 8, iJ11_getBytes, 3)]
theorem mvp37_0 : xMV 37 32 8 iJ11_length 0 := ⟨kJ11_length, q632, _, _, _, rfl, Or.inl ⟨q633, Or.inl q631⟩⟩
theorem mvp37_1 : xMV 37 40 8 iJ11_coder 0 := ⟨kJ11_coder, q636, _, _, _, rfl, Or.inl ⟨q637, Or.inl q648⟩⟩
theorem mvp37_2 : xMV 37 83 7 iJ9_isLatin1 0 := ⟨kJ9_isLatin1, q449, _, _, _, rfl, Or.inl ⟨q451, Or.inl q448⟩⟩
theorem mvp37_3 : xMV 37 399 8 iJ11_getBytes 3 := ⟨kJ11_getBytes, q650, _, _, _, rfl, Or.inl ⟨q651, Or.inl q649⟩⟩
theorem mvo37 : ∀ e ∈ mvT37, xMV 37 e.1 e.2.1 e.2.2.1 e.2.2.2 := List.forall_mem_cons.mpr ⟨mvp37_0, List.forall_mem_cons.mpr ⟨mvp37_1, List.forall_mem_cons.mpr ⟨mvp37_2, List.forall_mem_cons.mpr ⟨mvp37_3, (fun _ h => by cases h)⟩⟩⟩⟩
def mvT38 : List (Nat × Nat × xI × Nat) := []
theorem mvo38 : ∀ e ∈ mvT38, xMV 38 e.1 e.2.1 e.2.2.1 e.2.2.2 := (fun _ h => by cases h)
def mvT39 : List (Nat × Nat × xI × Nat) := []
theorem mvo39 : ∀ e ∈ mvT39, xMV 39 e.1 e.2.1 e.2.2.1 e.2.2.2 := (fun _ h => by cases h)
def mvT40 : List (Nat × Nat × xI × Nat) := [(33, 36, iJ8_getDeclaringClass, 0), (33, 37, iJ8_getDeclaringClass, 0), (33, 38, iJ8_getDeclaringClass, 0), (33, 39, iJ8_getDeclaringClass, 0), (33, 40, iJ8_getDeclaringClass, 0), (33, 41, iJ8_getDeclaringClass, 0), (33, 42, iJ8_getDeclaringClass, 0), (33, 43, iJ8_getDeclaringClass, 0), (33, 44, iJ8_getDeclaringClass, 0), (33, 45, iJ8_getDeclaringClass, 0), (33, 46, iJ8_getDeclaringClass, 0), (33, 47, iJ8_getDeclaringClass, 0), (33, 48, iJ8_getDeclaringClass, 0), (33, 49, iJ8_getDeclaringClass, 0), (101, 36, iJ8_compareTo_2, 1), (101, 37, iJ8_compareTo_2, 1), (101, 38, iJ8_compareTo_2, 1), (101, 39, iJ8_compareTo_2, 1), (101, 40, iJ8_compareTo_2, 1), (101, 41, iJ8_compareTo_2, 1), (101, 42, iJ8_compareTo_2, 1), (101, 43, iJ8_compareTo_2, 1), (101, 44, iJ8_compareTo_2, 1), (101, 45, iJ8_compareTo_2, 1), (101, 46, iJ8_compareTo_2, 1), (101, 47, iJ8_compareTo_2, 1), (101, 48, iJ8_compareTo_2, 1), (101, 49, iJ8_compareTo_2, 1)]
theorem mvp40_0 : xMV 40 33 36 iJ8_getDeclaringClass 0 := ⟨kJ8_getDeclaringClass, q1251, _, _, _, rfl, Or.inl ⟨q1253, Or.inl q1250⟩⟩
theorem mvp40_1 : xMV 40 33 37 iJ8_getDeclaringClass 0 := ⟨kJ8_getDeclaringClass, q1251, _, _, _, rfl, Or.inl ⟨q1254, Or.inl q1250⟩⟩
theorem mvp40_2 : xMV 40 33 38 iJ8_getDeclaringClass 0 := ⟨kJ8_getDeclaringClass, q1251, _, _, _, rfl, Or.inl ⟨q1255, Or.inl q1250⟩⟩
theorem mvp40_3 : xMV 40 33 39 iJ8_getDeclaringClass 0 := ⟨kJ8_getDeclaringClass, q1251, _, _, _, rfl, Or.inl ⟨q1257, Or.inl q1250⟩⟩
theorem mvp40_4 : xMV 40 33 40 iJ8_getDeclaringClass 0 := ⟨kJ8_getDeclaringClass, q1251, _, _, _, rfl, Or.inl ⟨q1258, Or.inl q1250⟩⟩
theorem mvp40_5 : xMV 40 33 41 iJ8_getDeclaringClass 0 := ⟨kJ8_getDeclaringClass, q1251, _, _, _, rfl, Or.inl ⟨q1259, Or.inl q1250⟩⟩
theorem mvp40_6 : xMV 40 33 42 iJ8_getDeclaringClass 0 := ⟨kJ8_getDeclaringClass, q1251, _, _, _, rfl, Or.inl ⟨q1260, Or.inl q1250⟩⟩
theorem mvp40_7 : xMV 40 33 43 iJ8_getDeclaringClass 0 := ⟨kJ8_getDeclaringClass, q1251, _, _, _, rfl, Or.inl ⟨q1261, Or.inl q1250⟩⟩
theorem mvp40_8 : xMV 40 33 44 iJ8_getDeclaringClass 0 := ⟨kJ8_getDeclaringClass, q1251, _, _, _, rfl, Or.inl ⟨q1262, Or.inl q1250⟩⟩
theorem mvp40_9 : xMV 40 33 45 iJ8_getDeclaringClass 0 := ⟨kJ8_getDeclaringClass, q1251, _, _, _, rfl, Or.inl ⟨q1264, Or.inl q1250⟩⟩
theorem mvp40_10 : xMV 40 33 46 iJ8_getDeclaringClass 0 := ⟨kJ8_getDeclaringClass, q1251, _, _, _, rfl, Or.inl ⟨q1265, Or.inl q1250⟩⟩
theorem mvp40_11 : xMV 40 33 47 iJ8_getDeclaringClass 0 := ⟨kJ8_getDeclaringClass, q1251, _, _, _, rfl, Or.inl ⟨q1266, Or.inl q1250⟩⟩
theorem mvp40_12 : xMV 40 33 48 iJ8_getDeclaringClass 0 := ⟨kJ8_getDeclaringClass, q1251, _, _, _, rfl, Or.inl ⟨q1256, Or.inl q1250⟩⟩
theorem mvp40_13 : xMV 40 33 49 iJ8_getDeclaringClass 0 := ⟨kJ8_getDeclaringClass, q1251, _, _, _, rfl, Or.inl ⟨q1263, Or.inl q1250⟩⟩
theorem mvp40_14 : xMV 40 101 36 iJ8_compareTo_2 1 := ⟨kJ8_compareTo_2, q1232, _, _, _, rfl, Or.inl ⟨q1234, Or.inl q1231⟩⟩
theorem mvp40_15 : xMV 40 101 37 iJ8_compareTo_2 1 := ⟨kJ8_compareTo_2, q1232, _, _, _, rfl, Or.inl ⟨q1235, Or.inl q1231⟩⟩
theorem mvp40_16 : xMV 40 101 38 iJ8_compareTo_2 1 := ⟨kJ8_compareTo_2, q1232, _, _, _, rfl, Or.inl ⟨q1236, Or.inl q1231⟩⟩
theorem mvp40_17 : xMV 40 101 39 iJ8_compareTo_2 1 := ⟨kJ8_compareTo_2, q1232, _, _, _, rfl, Or.inl ⟨q1238, Or.inl q1231⟩⟩
theorem mvp40_18 : xMV 40 101 40 iJ8_compareTo_2 1 := ⟨kJ8_compareTo_2, q1232, _, _, _, rfl, Or.inl ⟨q1239, Or.inl q1231⟩⟩
theorem mvp40_19 : xMV 40 101 41 iJ8_compareTo_2 1 := ⟨kJ8_compareTo_2, q1232, _, _, _, rfl, Or.inl ⟨q1240, Or.inl q1231⟩⟩
theorem mvp40_20 : xMV 40 101 42 iJ8_compareTo_2 1 := ⟨kJ8_compareTo_2, q1232, _, _, _, rfl, Or.inl ⟨q1241, Or.inl q1231⟩⟩
theorem mvp40_21 : xMV 40 101 43 iJ8_compareTo_2 1 := ⟨kJ8_compareTo_2, q1232, _, _, _, rfl, Or.inl ⟨q1242, Or.inl q1231⟩⟩
theorem mvp40_22 : xMV 40 101 44 iJ8_compareTo_2 1 := ⟨kJ8_compareTo_2, q1232, _, _, _, rfl, Or.inl ⟨q1243, Or.inl q1231⟩⟩
theorem mvp40_23 : xMV 40 101 45 iJ8_compareTo_2 1 := ⟨kJ8_compareTo_2, q1232, _, _, _, rfl, Or.inl ⟨q1245, Or.inl q1231⟩⟩
theorem mvp40_24 : xMV 40 101 46 iJ8_compareTo_2 1 := ⟨kJ8_compareTo_2, q1232, _, _, _, rfl, Or.inl ⟨q1246, Or.inl q1231⟩⟩
theorem mvp40_25 : xMV 40 101 47 iJ8_compareTo_2 1 := ⟨kJ8_compareTo_2, q1232, _, _, _, rfl, Or.inl ⟨q1247, Or.inl q1231⟩⟩
theorem mvp40_26 : xMV 40 101 48 iJ8_compareTo_2 1 := ⟨kJ8_compareTo_2, q1232, _, _, _, rfl, Or.inl ⟨q1237, Or.inl q1231⟩⟩
theorem mvp40_27 : xMV 40 101 49 iJ8_compareTo_2 1 := ⟨kJ8_compareTo_2, q1232, _, _, _, rfl, Or.inl ⟨q1244, Or.inl q1231⟩⟩
theorem mvo40 : ∀ e ∈ mvT40, xMV 40 e.1 e.2.1 e.2.2.1 e.2.2.2 := List.forall_mem_cons.mpr ⟨mvp40_0, List.forall_mem_cons.mpr ⟨mvp40_1, List.forall_mem_cons.mpr ⟨mvp40_2, List.forall_mem_cons.mpr ⟨mvp40_3, List.forall_mem_cons.mpr ⟨mvp40_4, List.forall_mem_cons.mpr ⟨mvp40_5, List.forall_mem_cons.mpr ⟨mvp40_6, List.forall_mem_cons.mpr ⟨mvp40_7, List.forall_mem_cons.mpr ⟨mvp40_8, List.forall_mem_cons.mpr ⟨mvp40_9, List.forall_mem_cons.mpr ⟨mvp40_10, List.forall_mem_cons.mpr ⟨mvp40_11, List.forall_mem_cons.mpr ⟨mvp40_12, List.forall_mem_cons.mpr ⟨mvp40_13, List.forall_mem_cons.mpr ⟨mvp40_14, List.forall_mem_cons.mpr ⟨mvp40_15, List.forall_mem_cons.mpr ⟨mvp40_16, List.forall_mem_cons.mpr ⟨mvp40_17, List.forall_mem_cons.mpr ⟨mvp40_18, List.forall_mem_cons.mpr ⟨mvp40_19, List.forall_mem_cons.mpr ⟨mvp40_20, List.forall_mem_cons.mpr ⟨mvp40_21, List.forall_mem_cons.mpr ⟨mvp40_22, List.forall_mem_cons.mpr ⟨mvp40_23, List.forall_mem_cons.mpr ⟨mvp40_24, List.forall_mem_cons.mpr ⟨mvp40_25, List.forall_mem_cons.mpr ⟨mvp40_26, List.forall_mem_cons.mpr ⟨mvp40_27, (fun _ h => by cases h)⟩⟩⟩⟩⟩⟩⟩⟩⟩⟩⟩⟩⟩⟩⟩⟩⟩⟩⟩⟩⟩⟩⟩⟩⟩⟩⟩⟩
def mvT41 : List (Nat × Nat × xI × Nat) := []
theorem mvo41 : ∀ e ∈ mvT41, xMV 41 e.1 e.2.1 e.2.2.1 e.2.2.2 := (fun _ h => by cases h)
def mvT42 : List (Nat × Nat × xI × Nat) := []
theorem mvo42 : ∀ e ∈ mvT42, xMV 42 e.1 e.2.1 e.2.2.1 e.2.2.2 := (fun _ h => by cases h)
def mvT43 : List (Nat × Nat × xI × Nat) := []
theorem mvo43 : ∀ e ∈ mvT43, xMV 43 e.1 e.2.1 e.2.2.1 e.2.2.2 := (fun _ h => by cases h)
def mvT44 : List (Nat × Nat × xI × Nat) := []
theorem mvo44 : ∀ e ∈ mvT44, xMV 44 e.1 e.2.1 e.2.2.1 e.2.2.2 := (fun _ h => by cases h)
def mvT45 : List (Nat × Nat × xI × Nat) := [(211, 15, iJ19_intValue, 0), (284, 15, iJ19_compareTo_2, 1)]
theorem mvp45_0 : xMV 45 211 15 iJ19_intValue 0 := ⟨kJ19_intValue, q1189, _, _, _, rfl, Or.inl ⟨q1190, Or.inl q1188⟩⟩
theorem mvp45_1 : xMV 45 284 15 iJ19_compareTo_2 1 := ⟨kJ19_compareTo_2, q1314, _, _, _, rfl, Or.inl ⟨q1315, Or.inl q1313⟩⟩
theorem mvo45 : ∀ e ∈ mvT45, xMV 45 e.1 e.2.1 e.2.2.1 e.2.2.2 := List.forall_mem_cons.mpr ⟨mvp45_0, List.forall_mem_cons.mpr ⟨mvp45_1, (fun _ h => by cases h)⟩⟩
def mvT46 : List (Nat × Nat × xI × Nat) := []
theorem mvo46 : ∀ e ∈ mvT46, xMV 46 e.1 e.2.1 e.2.2.1 e.2.2.2 := (fun _ h => by cases h)
def mvT47 : List (Nat × Nat × xI × Nat) := []
theorem mvo47 : ∀ e ∈ mvT47, xMV 47 e.1 e.2.1 e.2.2.1 e.2.2.2 := (fun _ h => by cases h)
def mvT48 : List (Nat × Nat × xI × Nat) := []
theorem mvo48 : ∀ e ∈ mvT48, xMV 48 e.1 e.2.1 e.2.2.1 e.2.2.2 := (fun _ h => by cases h)
def mvT49 : List (Nat × Nat × xI × Nat) := []
theorem mvo49 : ∀ e ∈ mvT49, xMV 49 e.1 e.2.1 e.2.2.1 e.2.2.2 := (fun _ h => by cases h)
def mvT50 : List (Nat × Nat × xI × Nat) := []
theorem mvo50 : ∀ e ∈ mvT50, xMV 50 e.1 e.2.1 e.2.2.1 e.2.2.2 := (fun _ h => by cases h)
def mvT51 : List (Nat × Nat × xI × Nat) := [(335, 8, iJ11_coder, 0), (492, 8, iJ11_isLatin1, 0), (505, 8, iJ11_length, 0), (549, 7, iJ10_length, 0), (552, 7, iJ9_getValue, 0), (633, 8, iJ11_indexOf_2, 2), (1047, 7, iJ9_isLatin1, 0), (1084, 8, iJ11_compareTo_2, 1)]
theorem mvp51_0 : xMV 51 335 8 iJ11_coder 0 := ⟨kJ11_coder, q636, _, _, _, rfl, Or.inl ⟨q637, Or.inl q635⟩⟩
theorem mvp51_1 : xMV 51 492 8 iJ11_isLatin1 0 := ⟨kJ11_isLatin1, q737, _, _, _, rfl, Or.inl ⟨q738, Or.inl q736⟩⟩
theorem mvp51_2 : xMV 51 505 8 iJ11_length 0 := ⟨kJ11_length, q632, _, _, _, rfl, Or.inl ⟨q633, Or.inl q740⟩⟩
theorem mvp51_3 : xMV 51 549 7 iJ10_length 0 := ⟨kJ10_length, q523, _, _, _, rfl, Or.inr ⟨_, _, q522, q519, q521, ⟨by decide +kernel, by decide +kernel⟩, by decide +kernel, Or.inr ⟨q520, _, _, _, q526⟩⟩⟩
theorem mvp51_4 : xMV 51 552 7 iJ9_getValue 0 := ⟨kJ9_getValue, q515, _, _, _, rfl, Or.inl ⟨q517, Or.inl q514⟩⟩
theorem mvp51_5 : xMV 51 633 8 iJ11_indexOf_2 2 := ⟨kJ11_indexOf_2, q733, _, _, _, rfl, Or.inl ⟨q734, Or.inl q732⟩⟩
theorem mvp51_6 : xMV 51 1047 7 iJ9_isLatin1 0 := ⟨kJ9_isLatin1, q449, _, _, _, rfl, Or.inl ⟨q451, Or.inl q527⟩⟩
theorem mvp51_7 : xMV 51 1084 8 iJ11_compareTo_2 1 := ⟨kJ11_compareTo_2, q1327, _, _, _, rfl, Or.inl ⟨q1328, Or.inl q1326⟩⟩
theorem mvo51 : ∀ e ∈ mvT51, xMV 51 e.1 e.2.1 e.2.2.1 e.2.2.2 := List.forall_mem_cons.mpr ⟨mvp51_0, List.forall_mem_cons.mpr ⟨mvp51_1, List.forall_mem_cons.mpr ⟨mvp51_2, List.forall_mem_cons.mpr ⟨mvp51_3, List.forall_mem_cons.mpr ⟨mvp51_4, List.forall_mem_cons.mpr ⟨mvp51_5, List.forall_mem_cons.mpr ⟨mvp51_6, List.forall_mem_cons.mpr ⟨mvp51_7, (fun _ h => by cases h)⟩⟩⟩⟩⟩⟩⟩⟩
def mvT52 : List (Nat × Nat × xI × Nat) := [(346, 7, iJ10_compareTo_2, 1)]
theorem mvp52_0 : xMV 52 346 7 iJ10_compareTo_2 1 := ⟨kJ10_compareTo_2, q1472, _, _, _, rfl, Or.inl ⟨q1473, Or.inl q1471⟩⟩
theorem mvo52 : ∀ e ∈ mvT52, xMV 52 e.1 e.2.1 e.2.2.1 e.2.2.2 := List.forall_mem_cons.mpr ⟨mvp52_0, (fun _ h => by cases h)⟩
def mvT53 : List (Nat × Nat × xI × Nat) := []
theorem mvo53 : ∀ e ∈ mvT53, xMV 53 e.1 e.2.1 e.2.2.1 e.2.2.2 := (fun _ h => by cases h)
def mvT54 : List (Nat × Nat × xI × Nat) := []
theorem mvo54 : ∀ e ∈ mvT54, xMV 54 e.1 e.2.1 e.2.2.1 e.2.2.2 := (fun _ h => by cases h)
def mvT55 : List (Nat × Nat × xI × Nat) := []
theorem mvo55 : ∀ e ∈ mvT55, xMV 55 e.1 e.2.1 e.2.2.1 e.2.2.2 := (fun _ h => by cases h)
def mvT56 : List (Nat × Nat × xI × Nat) := []
theorem mvo56 : ∀ e ∈ mvT56, xMV 56 e.1 e.2.1 e.2.2.1 e.2.2.2 := (fun _ h => by cases h)
def mvT57 : List (Nat × Nat × xI × Nat) := []
theorem mvo57 : ∀ e ∈ mvT57, xMV 57 e.1 e.2.1 e.2.2.1 e.2.2.2 := (fun _ h => by cases h)
def mvT58 : List (Nat × Nat × xI × Nat) := []
theorem mvo58 : ∀ e ∈ mvT58, xMV 58 e.1 e.2.1 e.2.2.1 e.2.2.2 := (fun _ h => by cases h)
def mvT59 : List (Nat × Nat × xI × Nat) := []
theorem mvo59 : ∀ e ∈ mvT59, xMV 59 e.1 e.2.1 e.2.2.1 e.2.2.2 := (fun _ h => by cases h)
def mvT60 : List (Nat × Nat × xI × Nat) := [(69, 3, iJ2_grow_2, 1), (85, 3, iJ2_indexOf, 1), (89, 3, iJ2_indexOfRange, 3), (93, 0, iJ33_equals, 1), (93, 1, iJ33_equals, 1), (93, 2, iJ33_equals, 1), (93, 4, iJ33_equals, 1), (93, 5, iJ33_equals, 1), (93, 6, iJ33_equals, 1), (93, 7, iJ33_equals, 1), (93, 8, iJ11_equals, 1), (93, 9, iJ33_equals, 1), (93, 12, iJ33_equals, 1), (93, 13, iJ33_equals, 1), (93, 15, iJ19_equals, 1), (93, 16, iJ33_equals, 1), (93, 17, iJ33_equals, 1), (93, 18, iJ33_equals, 1), (93, 19, iJ33_equals, 1), (93, 20, iJ33_equals, 1), (93, 23, iJ33_equals, 1), (93, 24, iJ33_equals, 1), (93, 25, iJ33_equals, 1), (93, 26, iJ33_equals, 1), (93, 27, iJ33_equals, 1), (93, 28, iJ33_equals, 1), (93, 30, iJ33_equals, 1), (93, 31, iJ33_equals, 1), (93, 32, iJ33_equals, 1), (93, 33, iJ33_equals, 1), (93, 34, iJ33_equals, 1), (93, 35, iJ33_equals, 1), (93, 36, iJ8_equals, 1), (93, 37, iJ8_equals, 1), (93, 38, iJ8_equals, 1), (93, 39, iJ8_equals, 1), (93, 40, iJ8_equals, 1), (93, 41, iJ8_equals, 1), (93, 42, iJ8_equals, 1), (93, 43, iJ8_equals, 1), (93, 44, iJ8_equals, 1), (93, 45, iJ8_equals, 1), (93, 46, iJ8_equals, 1), (93, 47, iJ8_equals, 1), (93, 48, iJ8_equals, 1), (93, 49, iJ8_equals, 1), (93, 50, iJ33_equals, 1), (123, 3, iJ2_elementData, 1), (129, 3, iJ2_grow, 0), (131, 3, iJ2_add_2, 3), (144, 3, iJ2_fastRemove, 2)]
theorem mvp60_0 : xMV 60 69 3 iJ2_grow_2 1 := ⟨kJ2_grow_2, q794, _, _, _, rfl, Or.inl ⟨qs4, Or.inl q792⟩⟩
theorem mvp60_1 : xMV 60 85 3 iJ2_indexOf 1 := ⟨kJ2_indexOf, q1974, _, _, _, rfl, Or.inl ⟨q1975, Or.inl q1973⟩⟩
theorem mvp60_2 : xMV 60 89 3 iJ2_indexOfRange 3 := ⟨kJ2_indexOfRange, q1978, _, _, _, rfl, Or.inl ⟨q1979, Or.inl q1977⟩⟩
theorem mvp60_3 : xMV 60 93 0 iJ33_equals 1 := ⟨kJ33_equals, q1140, _, _, _, rfl, Or.inl ⟨q1142, Or.inl q1981⟩⟩
theorem mvp60_4 : xMV 60 93 1 iJ33_equals 1 := ⟨kJ33_equals, q1140, _, _, _, rfl, Or.inl ⟨q1170, Or.inl q1981⟩⟩
theorem mvp60_5 : xMV 60 93 2 iJ33_equals 1 := ⟨kJ33_equals, q1140, _, _, _, rfl, Or.inl ⟨q1168, Or.inl q1981⟩⟩
theorem mvp60_6 : xMV 60 93 4 iJ33_equals 1 := ⟨kJ33_equals, q1140, _, _, _, rfl, Or.inl ⟨q1157, Or.inl q1981⟩⟩
theorem mvp60_7 : xMV 60 93 5 iJ33_equals 1 := ⟨kJ33_equals, q1140, _, _, _, rfl, Or.inl ⟨q1158, Or.inl q1981⟩⟩
theorem mvp60_8 : xMV 60 93 6 iJ33_equals 1 := ⟨kJ33_equals, q1140, _, _, _, rfl, Or.inl ⟨q1172, Or.inl q1981⟩⟩
theorem mvp60_9 : xMV 60 93 7 iJ33_equals 1 := ⟨kJ33_equals, q1140, _, _, _, rfl, Or.inl ⟨q1193, Or.inl q1981⟩⟩
theorem mvp60_10 : xMV 60 93 8 iJ11_equals 1 := ⟨kJ11_equals, q714, _, _, _, rfl, Or.inr ⟨_, _, q1192, q1981, q1141, ⟨by decide +kernel, by decide +kernel⟩, by decide +kernel, Or.inl q1138⟩⟩
theorem mvp60_11 : xMV 60 93 9 iJ33_equals 1 := ⟨kJ33_equals, q1140, _, _, _, rfl, Or.inl ⟨q1181, Or.inl q1981⟩⟩
theorem mvp60_12 : xMV 60 93 12 iJ33_equals 1 := ⟨kJ33_equals, q1140, _, _, _, rfl, Or.inl ⟨q1152, Or.inl q1981⟩⟩
theorem mvp60_13 : xMV 60 93 13 iJ33_equals 1 := ⟨kJ33_equals, q1140, _, _, _, rfl, Or.inl ⟨q1156, Or.inl q1981⟩⟩
theorem mvp60_14 : xMV 60 93 15 iJ19_equals 1 := ⟨kJ19_equals, q1185, _, _, _, rfl, Or.inr ⟨_, _, q1184, q1981, q1141, ⟨by decide +kernel, by decide +kernel⟩, by decide +kernel, Or.inl q1138⟩⟩
theorem mvp60_15 : xMV 60 93 16 iJ33_equals 1 := ⟨kJ33_equals, q1140, _, _, _, rfl, Or.inl ⟨q1145, Or.inl q1981⟩⟩
theorem mvp60_16 : xMV 60 93 17 iJ33_equals 1 := ⟨kJ33_equals, q1140, _, _, _, rfl, Or.inl ⟨q1143, Or.inl q1981⟩⟩
theorem mvp60_17 : xMV 60 93 18 iJ33_equals 1 := ⟨kJ33_equals, q1140, _, _, _, rfl, Or.inl ⟨q1173, Or.inl q1981⟩⟩
theorem mvp60_18 : xMV 60 93 19 iJ33_equals 1 := ⟨kJ33_equals, q1140, _, _, _, rfl, Or.inl ⟨q1154, Or.inl q1981⟩⟩
theorem mvp60_19 : xMV 60 93 20 iJ33_equals 1 := ⟨kJ33_equals, q1140, _, _, _, rfl, Or.inl ⟨q1169, Or.inl q1981⟩⟩
theorem mvp60_20 : xMV 60 93 23 iJ33_equals 1 := ⟨kJ33_equals, q1140, _, _, _, rfl, Or.inl ⟨q1167, Or.inl q1981⟩⟩
theorem mvp60_21 : xMV 60 93 24 iJ33_equals 1 := ⟨kJ33_equals, q1140, _, _, _, rfl, Or.inl ⟨q1159, Or.inl q1981⟩⟩
theorem mvp60_22 : xMV 60 93 25 iJ33_equals 1 := ⟨kJ33_equals, q1140, _, _, _, rfl, Or.inl ⟨q1151, Or.inl q1981⟩⟩
theorem mvp60_23 : xMV 60 93 26 iJ33_equals 1 := ⟨kJ33_equals, q1140, _, _, _, rfl, Or.inl ⟨q1153, Or.inl q1981⟩⟩
theorem mvp60_24 : xMV 60 93 27 iJ33_equals 1 := ⟨kJ33_equals, q1140, _, _, _, rfl, Or.inl ⟨q1144, Or.inl q1981⟩⟩
theorem mvp60_25 : xMV 60 93 28 iJ33_equals 1 := ⟨kJ33_equals, q1140, _, _, _, rfl, Or.inl ⟨q1171, Or.inl q1981⟩⟩
theorem mvp60_26 : xMV 60 93 30 iJ33_equals 1 := ⟨kJ33_equals, q1140, _, _, _, rfl, Or.inl ⟨q1183, Or.inl q1981⟩⟩
theorem mvp60_27 : xMV 60 93 31 iJ33_equals 1 := ⟨kJ33_equals, q1140, _, _, _, rfl, Or.inl ⟨q1182, Or.inl q1981⟩⟩
theorem mvp60_28 : xMV 60 93 32 iJ33_equals 1 := ⟨kJ33_equals, q1140, _, _, _, rfl, Or.inl ⟨q1180, Or.inl q1981⟩⟩
theorem mvp60_29 : xMV 60 93 33 iJ33_equals 1 := ⟨kJ33_equals, q1140, _, _, _, rfl, Or.inl ⟨q1177, Or.inl q1981⟩⟩
theorem mvp60_30 : xMV 60 93 34 iJ33_equals 1 := ⟨kJ33_equals, q1140, _, _, _, rfl, Or.inl ⟨q1179, Or.inl q1981⟩⟩
theorem mvp60_31 : xMV 60 93 35 iJ33_equals 1 := ⟨kJ33_equals, q1140, _, _, _, rfl, Or.inl ⟨q1178, Or.inl q1981⟩⟩
theorem mvp60_32 : xMV 60 93 36 iJ8_equals 1 := ⟨kJ8_equals, q1147, _, _, _, rfl, Or.inr ⟨_, _, q1146, q1981, q1141, ⟨by decide +kernel, by decide +kernel⟩, by decide +kernel, Or.inl q1138⟩⟩
theorem mvp60_33 : xMV 60 93 37 iJ8_equals 1 := ⟨kJ8_equals, q1147, _, _, _, rfl, Or.inr ⟨_, _, q1149, q1981, q1141, ⟨by decide +kernel, by decide +kernel⟩, by decide +kernel, Or.inl q1138⟩⟩
theorem mvp60_34 : xMV 60 93 38 iJ8_equals 1 := ⟨kJ8_equals, q1147, _, _, _, rfl, Or.inr ⟨_, _, q1150, q1981, q1141, ⟨by decide +kernel, by decide +kernel⟩, by decide +kernel, Or.inl q1138⟩⟩
theorem mvp60_35 : xMV 60 93 39 iJ8_equals 1 := ⟨kJ8_equals, q1147, _, _, _, rfl, Or.inr ⟨_, _, q1160, q1981, q1141, ⟨by decide +kernel, by decide +kernel⟩, by decide +kernel, Or.inl q1138⟩⟩
theorem mvp60_36 : xMV 60 93 40 iJ8_equals 1 := ⟨kJ8_equals, q1147, _, _, _, rfl, Or.inr ⟨_, _, q1161, q1981, q1141, ⟨by decide +kernel, by decide +kernel⟩, by decide +kernel, Or.inl q1138⟩⟩
theorem mvp60_37 : xMV 60 93 41 iJ8_equals 1 := ⟨kJ8_equals, q1147, _, _, _, rfl, Or.inr ⟨_, _, q1162, q1981, q1141, ⟨by decide +kernel, by decide +kernel⟩, by decide +kernel, Or.inl q1138⟩⟩
theorem mvp60_38 : xMV 60 93 42 iJ8_equals 1 := ⟨kJ8_equals, q1147, _, _, _, rfl, Or.inr ⟨_, _, q1163, q1981, q1141, ⟨by decide +kernel, by decide +kernel⟩, by decide +kernel, Or.inl q1138⟩⟩
theorem mvp60_39 : xMV 60 93 43 iJ8_equals 1 := ⟨kJ8_equals, q1147, _, _, _, rfl, Or.inr ⟨_, _, q1164, q1981, q1141, ⟨by decide +kernel, by decide +kernel⟩, by decide +kernel, Or.inl q1138⟩⟩
theorem mvp60_40 : xMV 60 93 44 iJ8_equals 1 := ⟨kJ8_equals, q1147, _, _, _, rfl, Or.inr ⟨_, _, q1165, q1981, q1141, ⟨by decide +kernel, by decide +kernel⟩, by decide +kernel, Or.inl q1138⟩⟩
theorem mvp60_41 : xMV 60 93 45 iJ8_equals 1 := ⟨kJ8_equals, q1147, _, _, _, rfl, Or.inr ⟨_, _, q1174, q1981, q1141, ⟨by decide +kernel, by decide +kernel⟩, by decide +kernel, Or.inl q1138⟩⟩
theorem mvp60_42 : xMV 60 93 46 iJ8_equals 1 := ⟨kJ8_equals, q1147, _, _, _, rfl, Or.inr ⟨_, _, q1175, q1981, q1141, ⟨by decide +kernel, by decide +kernel⟩, by decide +kernel, Or.inl q1138⟩⟩
theorem mvp60_43 : xMV 60 93 47 iJ8_equals 1 := ⟨kJ8_equals, q1147, _, _, _, rfl, Or.inr ⟨_, _, q1176, q1981, q1141, ⟨by decide +kernel, by decide +kernel⟩, by decide +kernel, Or.inl q1138⟩⟩
theorem mvp60_44 : xMV 60 93 48 iJ8_equals 1 := ⟨kJ8_equals, q1147, _, _, _, rfl, Or.inr ⟨_, _, q1155, q1981, q1141, ⟨by decide +kernel, by decide +kernel⟩, by decide +kernel, Or.inl q1138⟩⟩
theorem mvp60_45 : xMV 60 93 49 iJ8_equals 1 := ⟨kJ8_equals, q1147, _, _, _, rfl, Or.inr ⟨_, _, q1166, q1981, q1141, ⟨by decide +kernel, by decide +kernel⟩, by decide +kernel, Or.inl q1138⟩⟩
theorem mvp60_46 : xMV 60 93 50 iJ33_equals 1 := ⟨kJ33_equals, q1140, _, _, _, rfl, Or.inl ⟨q1195, Or.inl q1981⟩⟩
theorem mvp60_47 : xMV 60 123 3 iJ2_elementData 1 := ⟨kJ2_elementData, q952, _, _, _, rfl, Or.inl ⟨q953, Or.inl q951⟩⟩
theorem mvp60_48 : xMV 60 129 3 iJ2_grow 0 := ⟨kJ2_grow, q790, _, _, _, rfl, Or.inl ⟨qs3, Or.inl q788⟩⟩
theorem mvp60_49 : xMV 60 131 3 iJ2_add_2 3 := ⟨kJ2_add_2, q786, _, _, _, rfl, Or.inl ⟨qs2, Or.inl q784⟩⟩
theorem mvp60_50 : xMV 60 144 3 iJ2_fastRemove 2 := ⟨kJ2_fastRemove, q2190, _, _, _, rfl, Or.inl ⟨qs30, Or.inl q2188⟩⟩
theorem mvo60 : ∀ e ∈ mvT60, xMV 60 e.1 e.2.1 e.2.2.1 e.2.2.2 := List.forall_mem_cons.mpr ⟨mvp60_0, List.forall_mem_cons.mpr ⟨mvp60_1, List.forall_mem_cons.mpr ⟨mvp60_2, List.forall_mem_cons.mpr ⟨mvp60_3, List.forall_mem_cons.mpr ⟨mvp60_4, List.forall_mem_cons.mpr ⟨mvp60_5, List.forall_mem_cons.mpr ⟨mvp60_6, List.forall_mem_cons.mpr ⟨mvp60_7, List.forall_mem_cons.mpr ⟨mvp60_8, List.forall_mem_cons.mpr ⟨mvp60_9, List.forall_mem_cons.mpr ⟨mvp60_10, List.forall_mem_cons.mpr ⟨mvp60_11, List.forall_mem_cons.mpr ⟨mvp60_12, List.forall_mem_cons.mpr ⟨mvp60_13, List.forall_mem_cons.mpr ⟨mvp60_14, List.forall_mem_cons.mpr ⟨mvp60_15, List.forall_mem_cons.mpr ⟨mvp60_16, List.forall_mem_cons.mpr ⟨mvp60_17, List.forall_mem_cons.mpr ⟨mvp60_18, List.forall_mem_cons.mpr ⟨mvp60_19, List.forall_mem_cons.mpr ⟨mvp60_20, List.forall_mem_cons.mpr ⟨mvp60_21, List.forall_mem_cons.mpr ⟨mvp60_22, List.forall_mem_cons.mpr ⟨mvp60_23, List.forall_mem_cons.mpr ⟨mvp60_24, List.forall_mem_cons.mpr ⟨mvp60_25, List.forall_mem_cons.mpr ⟨mvp60_26, List.forall_mem_cons.mpr ⟨mvp60_27, List.forall_mem_cons.mpr ⟨mvp60_28, List.forall_mem_cons.mpr ⟨mvp60_29, List.forall_mem_cons.mpr ⟨mvp60_30, List.forall_mem_cons.mpr ⟨mvp60_31, List.forall_mem_cons.mpr ⟨mvp60_32, List.forall_mem_cons.mpr ⟨mvp60_33, List.forall_mem_cons.mpr ⟨mvp60_34, List.forall_mem_cons.mpr ⟨mvp60_35, List.forall_mem_cons.mpr ⟨mvp60_36, List.forall_mem_cons.mpr ⟨mvp60_37, List.forall_mem_cons.mpr ⟨mvp60_38, List.forall_mem_cons.mpr ⟨mvp60_39, List.forall_mem_cons.mpr ⟨mvp60_40, List.forall_mem_cons.mpr ⟨mvp60_41, List.forall_mem_cons.mpr ⟨mvp60_42, List.forall_mem_cons.mpr ⟨mvp60_43, List.forall_mem_cons.mpr ⟨mvp60_44, List.forall_mem_cons.mpr ⟨mvp60_45, List.forall_mem_cons.mpr ⟨mvp60_46, List.forall_mem_cons.mpr ⟨mvp60_47, List.forall_mem_cons.mpr ⟨mvp60_48, List.forall_mem_cons.mpr ⟨mvp60_49, List.forall_mem_cons.mpr ⟨mvp60_50, (fun _ h => by cases h)⟩⟩⟩⟩⟩⟩⟩⟩⟩⟩⟩⟩⟩⟩⟩⟩⟩⟩⟩⟩⟩⟩⟩⟩⟩⟩⟩⟩⟩⟩⟩⟩⟩⟩⟩⟩⟩⟩⟩⟩⟩⟩⟩⟩⟩⟩⟩⟩⟩⟩⟩
def mvT61 : List (Nat × Nat × xI × Nat) := [(31, 29, iJ32_checkForComodification, 0)]
theorem mvp61_0 : xMV 61 31 29 iJ32_checkForComodification 0 := ⟨kJ32_checkForComodification, q2347, _, _, _, rfl, Or.inl ⟨q2348, Or.inl q2346⟩⟩
theorem mvo61 : ∀ e ∈ mvT61, xMV 61 e.1 e.2.1 e.2.2.1 e.2.2.2 := List.forall_mem_cons.mpr ⟨mvp61_0, (fun _ h => by cases h)⟩
def mvT62 : List (Nat × Nat × xI × Nat) := [(50, 7, iJ10_append_3, 1), (54, 7, iJ10_append_2, 1), (61, 7, iJ10_toString, 0)]
theorem mvp62_0 : xMV 62 50 7 iJ10_append_3 1 := ⟨kJ10_append_3, q618, _, _, _, rfl, Or.inl ⟨q619, Or.inl q617⟩⟩
theorem mvp62_1 : xMV 62 54 7 iJ10_append_2 1 := ⟨kJ10_append_2, q583, _, _, _, rfl, Or.inl ⟨q584, Or.inl q582⟩⟩
theorem mvp62_2 : xMV 62 61 7 iJ10_toString 0 := ⟨kJ10_toString, q502, _, _, _, rfl, Or.inl ⟨q503, Or.inl q655⟩⟩
theorem mvo62 : ∀ e ∈ mvT62, xMV 62 e.1 e.2.1 e.2.2.1 e.2.2.2 := List.forall_mem_cons.mpr ⟨mvp62_0, List.forall_mem_cons.mpr ⟨mvp62_1, List.forall_mem_cons.mpr ⟨mvp62_2, (fun _ h => by cases h)⟩⟩⟩
def mvT63 : List (Nat × Nat × xI × Nat) := [(1, 8, iJ11_hashCode, 0), (1, 15, iJ19_hashCode, 0), (1, 36, iJ8_hashCode, 0), (1, 37, iJ8_hashCode, 0), (1, 38, iJ8_hashCode, 0), (1, 39, iJ8_hashCode, 0), (1, 40, iJ8_hashCode, 0), (1, 41, iJ8_hashCode, 0), (1, 42, iJ8_hashCode, 0), (1, 43, iJ8_hashCode, 0), (1, 44, iJ8_hashCode, 0), (1, 45, iJ8_hashCode, 0), (1, 46, iJ8_hashCode, 0), (1, 47, iJ8_hashCode, 0), (1, 48, iJ8_hashCode, 0), (1, 49, iJ8_hashCode, 0), (117, 11, iJ22_resize, 0), (152, 11, iJ22_putVal, 5), (158, 11, iJ22_getNode, 1), (173, 0, iJ33_equals, 1), (173, 1, iJ33_equals, 1), (173, 2, iJ33_equals, 1), (173, 4, iJ33_equals, 1), (173, 5, iJ33_equals, 1), (173, 6, iJ33_equals, 1), (173, 7, iJ33_equals, 1), (173, 8, iJ11_equals, 1), (173, 9, iJ33_equals, 1), (173, 12, iJ33_equals, 1), (173, 13, iJ33_equals, 1), (173, 15, iJ19_equals, 1), (173, 16, iJ33_equals, 1), (173, 17, iJ33_equals, 1), (173, 18, iJ33_equals, 1), (173, 19, iJ33_equals, 1), (173, 20, iJ33_equals, 1), (173, 23, iJ33_equals, 1), (173, 24, iJ33_equals, 1), (173, 25, iJ33_equals, 1), (173, 26, iJ33_equals, 1), (173, 27, iJ33_equals, 1), (173, 28, iJ33_equals, 1), (173, 30, iJ33_equals, 1), (173, 31, iJ33_equals, 1), (173, 32, iJ33_equals, 1), (173, 33, iJ33_equals, 1), (173, 34, iJ33_equals, 1), (173, 35, iJ33_equals, 1), (173, 36, iJ8_equals, 1), (173, 37, iJ8_equals, 1), (173, 38, iJ8_equals, 1), (173, 39, iJ8_equals, 1), (173, 40, iJ8_equals, 1), (173, 41, iJ8_equals, 1), (173, 42, iJ8_equals, 1), (173, 43, iJ8_equals, 1), (173, 44, iJ8_equals, 1), (173, 45, iJ8_equals, 1), (173, 46, iJ8_equals, 1), (173, 47, iJ8_equals, 1), (173, 48, iJ8_equals, 1), (173, 49, iJ8_equals, 1), (173, 50, iJ33_equals, 1), (182, 22, iJ29_getTreeNode, 2), (186, 11, iJ22_newNode, 4), (190, 22, iJ29_putTreeVal, 5), (194, 11, iJ22_treeifyBin, 2), (198, 11, iJ22_afterNodeAccess, 1), (205, 11, iJ22_afterNodeInsertion, 1), (211, 22, iJ29_split, 4), (215, 11, iJ22_replacementTreeNode, 2), (224, 22, iJ29_treeify, 1)]
theorem mvp63_0 : xMV 63 1 8 iJ11_hashCode 0 := ⟨kJ11_hashCode, q1079, _, _, _, rfl, Or.inr ⟨_, _, q1078, q1024, q1026, ⟨by decide +kernel, by decide +kernel⟩, by decide +kernel, Or.inl q1023⟩⟩
theorem mvp63_1 : xMV 63 1 15 iJ19_hashCode 0 := ⟨kJ19_hashCode, q1073, _, _, _, rfl, Or.inr ⟨_, _, q1072, q1024, q1026, ⟨by decide +kernel, by decide +kernel⟩, by decide +kernel, Or.inl q1023⟩⟩
theorem mvp63_2 : xMV 63 1 36 iJ8_hashCode 0 := ⟨kJ8_hashCode, q1032, _, _, _, rfl, Or.inr ⟨_, _, q1031, q1024, q1026, ⟨by decide +kernel, by decide +kernel⟩, by decide +kernel, Or.inl q1023⟩⟩
theorem mvp63_3 : xMV 63 1 37 iJ8_hashCode 0 := ⟨kJ8_hashCode, q1032, _, _, _, rfl, Or.inr ⟨_, _, q1037, q1024, q1026, ⟨by decide +kernel, by decide +kernel⟩, by decide +kernel, Or.inl q1023⟩⟩
theorem mvp63_4 : xMV 63 1 38 iJ8_hashCode 0 := ⟨kJ8_hashCode, q1032, _, _, _, rfl, Or.inr ⟨_, _, q1038, q1024, q1026, ⟨by decide +kernel, by decide +kernel⟩, by decide +kernel, Or.inl q1023⟩⟩
theorem mvp63_5 : xMV 63 1 39 iJ8_hashCode 0 := ⟨kJ8_hashCode, q1032, _, _, _, rfl, Or.inr ⟨_, _, q1048, q1024, q1026, ⟨by decide +kernel, by decide +kernel⟩, by decide +kernel, Or.inl q1023⟩⟩
theorem mvp63_6 : xMV 63 1 40 iJ8_hashCode 0 := ⟨kJ8_hashCode, q1032, _, _, _, rfl, Or.inr ⟨_, _, q1049, q1024, q1026, ⟨by decide +kernel, by decide +kernel⟩, by decide +kernel, Or.inl q1023⟩⟩
theorem mvp63_7 : xMV 63 1 41 iJ8_hashCode 0 := ⟨kJ8_hashCode, q1032, _, _, _, rfl, Or.inr ⟨_, _, q1050, q1024, q1026, ⟨by decide +kernel, by decide +kernel⟩, by decide +kernel, Or.inl q1023⟩⟩
theorem mvp63_8 : xMV 63 1 42 iJ8_hashCode 0 := ⟨kJ8_hashCode, q1032, _, _, _, rfl, Or.inr ⟨_, _, q1051, q1024, q1026, ⟨by decide +kernel, by decide +kernel⟩, by decide +kernel, Or.inl q1023⟩⟩
theorem mvp63_9 : xMV 63 1 43 iJ8_hashCode 0 := ⟨kJ8_hashCode, q1032, _, _, _, rfl, Or.inr ⟨_, _, q1052, q1024, q1026, ⟨by decide +kernel, by decide +kernel⟩, by decide +kernel, Or.inl q1023⟩⟩
theorem mvp63_10 : xMV 63 1 44 iJ8_hashCode 0 := ⟨kJ8_hashCode, q1032, _, _, _, rfl, Or.inr ⟨_, _, q1053, q1024, q1026, ⟨by decide +kernel, by decide +kernel⟩, by decide +kernel, Or.inl q1023⟩⟩
theorem mvp63_11 : xMV 63 1 45 iJ8_hashCode 0 := ⟨kJ8_hashCode, q1032, _, _, _, rfl, Or.inr ⟨_, _, q1062, q1024, q1026, ⟨by decide +kernel, by decide +kernel⟩, by decide +kernel, Or.inl q1023⟩⟩
theorem mvp63_12 : xMV 63 1 46 iJ8_hashCode 0 := ⟨kJ8_hashCode, q1032, _, _, _, rfl, Or.inr ⟨_, _, q1063, q1024, q1026, ⟨by decide +kernel, by decide +kernel⟩, by decide +kernel, Or.inl q1023⟩⟩
theorem mvp63_13 : xMV 63 1 47 iJ8_hashCode 0 := ⟨kJ8_hashCode, q1032, _, _, _, rfl, Or.inr ⟨_, _, q1064, q1024, q1026, ⟨by decide +kernel, by decide +kernel⟩, by decide +kernel, Or.inl q1023⟩⟩
theorem mvp63_14 : xMV 63 1 48 iJ8_hashCode 0 := ⟨kJ8_hashCode, q1032, _, _, _, rfl, Or.inr ⟨_, _, q1043, q1024, q1026, ⟨by decide +kernel, by decide +kernel⟩, by decide +kernel, Or.inl q1023⟩⟩
theorem mvp63_15 : xMV 63 1 49 iJ8_hashCode 0 := ⟨kJ8_hashCode, q1032, _, _, _, rfl, Or.inr ⟨_, _, q1054, q1024, q1026, ⟨by decide +kernel, by decide +kernel⟩, by decide +kernel, Or.inl q1023⟩⟩
theorem mvp63_16 : xMV 63 117 11 iJ22_resize 0 := ⟨kJ22_resize, q1814, _, _, _, rfl, Or.inl ⟨q1815, Or.inl q1813⟩⟩
theorem mvp63_17 : xMV 63 152 11 iJ22_putVal 5 := ⟨kJ22_putVal, q1810, _, _, _, rfl, Or.inl ⟨q1811, Or.inl q1809⟩⟩
theorem mvp63_18 : xMV 63 158 11 iJ22_getNode 1 := ⟨kJ22_getNode, q1017, _, _, _, rfl, Or.inl ⟨q1018, Or.inl q1016⟩⟩
theorem mvp63_19 : xMV 63 173 0 iJ33_equals 1 := ⟨kJ33_equals, q1140, _, _, _, rfl, Or.inl ⟨q1142, Or.inl q1139⟩⟩
theorem mvp63_20 : xMV 63 173 1 iJ33_equals 1 := ⟨kJ33_equals, q1140, _, _, _, rfl, Or.inl ⟨q1170, Or.inl q1139⟩⟩
theorem mvp63_21 : xMV 63 173 2 iJ33_equals 1 := ⟨kJ33_equals, q1140, _, _, _, rfl, Or.inl ⟨q1168, Or.inl q1139⟩⟩
theorem mvp63_22 : xMV 63 173 4 iJ33_equals 1 := ⟨kJ33_equals, q1140, _, _, _, rfl, Or.inl ⟨q1157, Or.inl q1139⟩⟩
theorem mvp63_23 : xMV 63 173 5 iJ33_equals 1 := ⟨kJ33_equals, q1140, _, _, _, rfl, Or.inl ⟨q1158, Or.inl q1139⟩⟩
theorem mvp63_24 : xMV 63 173 6 iJ33_equals 1 := ⟨kJ33_equals, q1140, _, _, _, rfl, Or.inl ⟨q1172, Or.inl q1139⟩⟩
theorem mvp63_25 : xMV 63 173 7 iJ33_equals 1 := ⟨kJ33_equals, q1140, _, _, _, rfl, Or.inl ⟨q1193, Or.inl q1139⟩⟩
theorem mvp63_26 : xMV 63 173 8 iJ11_equals 1 := ⟨kJ11_equals, q714, _, _, _, rfl, Or.inr ⟨_, _, q1192, q1139, q1141, ⟨by decide +kernel, by decide +kernel⟩, by decide +kernel, Or.inl q1138⟩⟩
theorem mvp63_27 : xMV 63 173 9 iJ33_equals 1 := ⟨kJ33_equals, q1140, _, _, _, rfl, Or.inl ⟨q1181, Or.inl q1139⟩⟩
theorem mvp63_28 : xMV 63 173 12 iJ33_equals 1 := ⟨kJ33_equals, q1140, _, _, _, rfl, Or.inl ⟨q1152, Or.inl q1139⟩⟩
theorem mvp63_29 : xMV 63 173 13 iJ33_equals 1 := ⟨kJ33_equals, q1140, _, _, _, rfl, Or.inl ⟨q1156, Or.inl q1139⟩⟩
theorem mvp63_30 : xMV 63 173 15 iJ19_equals 1 := ⟨kJ19_equals, q1185, _, _, _, rfl, Or.inr ⟨_, _, q1184, q1139, q1141, ⟨by decide +kernel, by decide +kernel⟩, by decide +kernel, Or.inl q1138⟩⟩
theorem mvp63_31 : xMV 63 173 16 iJ33_equals 1 := ⟨kJ33_equals, q1140, _, _, _, rfl, Or.inl ⟨q1145, Or.inl q1139⟩⟩
theorem mvp63_32 : xMV 63 173 17 iJ33_equals 1 := ⟨kJ33_equals, q1140, _, _, _, rfl, Or.inl ⟨q1143, Or.inl q1139⟩⟩
theorem mvp63_33 : xMV 63 173 18 iJ33_equals 1 := ⟨kJ33_equals, q1140, _, _, _, rfl, Or.inl ⟨q1173, Or.inl q1139⟩⟩
theorem mvp63_34 : xMV 63 173 19 iJ33_equals 1 := ⟨kJ33_equals, q1140, _, _, _, rfl, Or.inl ⟨q1154, Or.inl q1139⟩⟩
theorem mvp63_35 : xMV 63 173 20 iJ33_equals 1 := ⟨kJ33_equals, q1140, _, _, _, rfl, Or.inl ⟨q1169, Or.inl q1139⟩⟩
theorem mvp63_36 : xMV 63 173 23 iJ33_equals 1 := ⟨kJ33_equals, q1140, _, _, _, rfl, Or.inl ⟨q1167, Or.inl q1139⟩⟩
theorem mvp63_37 : xMV 63 173 24 iJ33_equals 1 := ⟨kJ33_equals, q1140, _, _, _, rfl, Or.inl ⟨q1159, Or.inl q1139⟩⟩
theorem mvp63_38 : xMV 63 173 25 iJ33_equals 1 := ⟨kJ33_equals, q1140, _, _, _, rfl, Or.inl ⟨q1151, Or.inl q1139⟩⟩
theorem mvp63_39 : xMV 63 173 26 iJ33_equals 1 := ⟨kJ33_equals, q1140, _, _, _, rfl, Or.inl ⟨q1153, Or.inl q1139⟩⟩
theorem mvp63_40 : xMV 63 173 27 iJ33_equals 1 := ⟨kJ33_equals, q1140, _, _, _, rfl, Or.inl ⟨q1144, Or.inl q1139⟩⟩
theorem mvp63_41 : xMV 63 173 28 iJ33_equals 1 := ⟨kJ33_equals, q1140, _, _, _, rfl, Or.inl ⟨q1171, Or.inl q1139⟩⟩
theorem mvp63_42 : xMV 63 173 30 iJ33_equals 1 := ⟨kJ33_equals, q1140, _, _, _, rfl, Or.inl ⟨q1183, Or.inl q1139⟩⟩
theorem mvp63_43 : xMV 63 173 31 iJ33_equals 1 := ⟨kJ33_equals, q1140, _, _, _, rfl, Or.inl ⟨q1182, Or.inl q1139⟩⟩
theorem mvp63_44 : xMV 63 173 32 iJ33_equals 1 := ⟨kJ33_equals, q1140, _, _, _, rfl, Or.inl ⟨q1180, Or.inl q1139⟩⟩
theorem mvp63_45 : xMV 63 173 33 iJ33_equals 1 := ⟨kJ33_equals, q1140, _, _, _, rfl, Or.inl ⟨q1177, Or.inl q1139⟩⟩
theorem mvp63_46 : xMV 63 173 34 iJ33_equals 1 := ⟨kJ33_equals, q1140, _, _, _, rfl, Or.inl ⟨q1179, Or.inl q1139⟩⟩
theorem mvp63_47 : xMV 63 173 35 iJ33_equals 1 := ⟨kJ33_equals, q1140, _, _, _, rfl, Or.inl ⟨q1178, Or.inl q1139⟩⟩
theorem mvp63_48 : xMV 63 173 36 iJ8_equals 1 := ⟨kJ8_equals, q1147, _, _, _, rfl, Or.inr ⟨_, _, q1146, q1139, q1141, ⟨by decide +kernel, by decide +kernel⟩, by decide +kernel, Or.inl q1138⟩⟩
theorem mvp63_49 : xMV 63 173 37 iJ8_equals 1 := ⟨kJ8_equals, q1147, _, _, _, rfl, Or.inr ⟨_, _, q1149, q1139, q1141, ⟨by decide +kernel, by decide +kernel⟩, by decide +kernel, Or.inl q1138⟩⟩
theorem mvp63_50 : xMV 63 173 38 iJ8_equals 1 := ⟨kJ8_equals, q1147, _, _, _, rfl, Or.inr ⟨_, _, q1150, q1139, q1141, ⟨by decide +kernel, by decide +kernel⟩, by decide +kernel, Or.inl q1138⟩⟩
theorem mvp63_51 : xMV 63 173 39 iJ8_equals 1 := ⟨kJ8_equals, q1147, _, _, _, rfl, Or.inr ⟨_, _, q1160, q1139, q1141, ⟨by decide +kernel, by decide +kernel⟩, by decide +kernel, Or.inl q1138⟩⟩
theorem mvp63_52 : xMV 63 173 40 iJ8_equals 1 := ⟨kJ8_equals, q1147, _, _, _, rfl, Or.inr ⟨_, _, q1161, q1139, q1141, ⟨by decide +kernel, by decide +kernel⟩, by decide +kernel, Or.inl q1138⟩⟩
theorem mvp63_53 : xMV 63 173 41 iJ8_equals 1 := ⟨kJ8_equals, q1147, _, _, _, rfl, Or.inr ⟨_, _, q1162, q1139, q1141, ⟨by decide +kernel, by decide +kernel⟩, by decide +kernel, Or.inl q1138⟩⟩
theorem mvp63_54 : xMV 63 173 42 iJ8_equals 1 := ⟨kJ8_equals, q1147, _, _, _, rfl, Or.inr ⟨_, _, q1163, q1139, q1141, ⟨by decide +kernel, by decide +kernel⟩, by decide +kernel, Or.inl q1138⟩⟩
theorem mvp63_55 : xMV 63 173 43 iJ8_equals 1 := ⟨kJ8_equals, q1147, _, _, _, rfl, Or.inr ⟨_, _, q1164, q1139, q1141, ⟨by decide +kernel, by decide +kernel⟩, by decide +kernel, Or.inl q1138⟩⟩
theorem mvp63_56 : xMV 63 173 44 iJ8_equals 1 := ⟨kJ8_equals, q1147, _, _, _, rfl, Or.inr ⟨_, _, q1165, q1139, q1141, ⟨by decide +kernel, by decide +kernel⟩, by decide +kernel, Or.inl q1138⟩⟩
theorem mvp63_57 : xMV 63 173 45 iJ8_equals 1 := ⟨kJ8_equals, q1147, _, _, _, rfl, Or.inr ⟨_, _, q1174, q1139, q1141, ⟨by decide +kernel, by decide +kernel⟩, by decide +kernel, Or.inl q1138⟩⟩
theorem mvp63_58 : xMV 63 173 46 iJ8_equals 1 := ⟨kJ8_equals, q1147, _, _, _, rfl, Or.inr ⟨_, _, q1175, q1139, q1141, ⟨by decide +kernel, by decide +kernel⟩, by decide +kernel, Or.inl q1138⟩⟩
theorem mvp63_59 : xMV 63 173 47 iJ8_equals 1 := ⟨kJ8_equals, q1147, _, _, _, rfl, Or.inr ⟨_, _, q1176, q1139, q1141, ⟨by decide +kernel, by decide +kernel⟩, by decide +kernel, Or.inl q1138⟩⟩
theorem mvp63_60 : xMV 63 173 48 iJ8_equals 1 := ⟨kJ8_equals, q1147, _, _, _, rfl, Or.inr ⟨_, _, q1155, q1139, q1141, ⟨by decide +kernel, by decide +kernel⟩, by decide +kernel, Or.inl q1138⟩⟩
theorem mvp63_61 : xMV 63 173 49 iJ8_equals 1 := ⟨kJ8_equals, q1147, _, _, _, rfl, Or.inr ⟨_, _, q1166, q1139, q1141, ⟨by decide +kernel, by decide +kernel⟩, by decide +kernel, Or.inl q1138⟩⟩
theorem mvp63_62 : xMV 63 173 50 iJ33_equals 1 := ⟨kJ33_equals, q1140, _, _, _, rfl, Or.inl ⟨q1195, Or.inl q1139⟩⟩
theorem mvp63_63 : xMV 63 182 22 iJ29_getTreeNode 2 := ⟨kJ29_getTreeNode, q1199, _, _, _, rfl, Or.inl ⟨q1200, Or.inl q1198⟩⟩
theorem mvp63_64 : xMV 63 186 11 iJ22_newNode 4 := ⟨kJ22_newNode, q1884, _, _, _, rfl, Or.inl ⟨q1885, Or.inl q1883⟩⟩
theorem mvp63_65 : xMV 63 190 22 iJ29_putTreeVal 5 := ⟨kJ29_putTreeVal, q1888, _, _, _, rfl, Or.inl ⟨q1889, Or.inl q1887⟩⟩
theorem mvp63_66 : xMV 63 194 11 iJ22_treeifyBin 2 := ⟨kJ22_treeifyBin, q1929, _, _, _, rfl, Or.inl ⟨q1930, Or.inl q1928⟩⟩
theorem mvp63_67 : xMV 63 198 11 iJ22_afterNodeAccess 1 := ⟨kJ22_afterNodeAccess, q1938, _, _, _, rfl, Or.inl ⟨q1939, Or.inl q1937⟩⟩
theorem mvp63_68 : xMV 63 205 11 iJ22_afterNodeInsertion 1 := ⟨kJ22_afterNodeInsertion, q1942, _, _, _, rfl, Or.inl ⟨q1943, Or.inl q1941⟩⟩
theorem mvp63_69 : xMV 63 211 22 iJ29_split 4 := ⟨kJ29_split, q1823, _, _, _, rfl, Or.inl ⟨q1824, Or.inl q1822⟩⟩
theorem mvp63_70 : xMV 63 215 11 iJ22_replacementTreeNode 2 := ⟨kJ22_replacementTreeNode, q1933, _, _, _, rfl, Or.inl ⟨q1934, Or.inl q1932⟩⟩
theorem mvp63_71 : xMV 63 224 22 iJ29_treeify 1 := ⟨kJ29_treeify, q1866, _, _, _, rfl, Or.inl ⟨q1867, Or.inl q1936⟩⟩
theorem mvo63 : ∀ e ∈ mvT63, xMV 63 e.1 e.2.1 e.2.2.1 e.2.2.2 := List.forall_mem_cons.mpr ⟨mvp63_0, List.forall_mem_cons.mpr ⟨mvp63_1, List.forall_mem_cons.mpr ⟨mvp63_2, List.forall_mem_cons.mpr ⟨mvp63_3, List.forall_mem_cons.mpr ⟨mvp63_4, List.forall_mem_cons.mpr ⟨mvp63_5, List.forall_mem_cons.mpr ⟨mvp63_6, List.forall_mem_cons.mpr ⟨mvp63_7, List.forall_mem_cons.mpr ⟨mvp63_8, List.forall_mem_cons.mpr ⟨mvp63_9, List.forall_mem_cons.mpr ⟨mvp63_10, List.forall_mem_cons.mpr ⟨mvp63_11, List.forall_mem_cons.mpr ⟨mvp63_12, List.forall_mem_cons.mpr ⟨mvp63_13, List.forall_mem_cons.mpr ⟨mvp63_14, List.forall_mem_cons.mpr ⟨mvp63_15, List.forall_mem_cons.mpr ⟨mvp63_16, List.forall_mem_cons.mpr ⟨mvp63_17, List.forall_mem_cons.mpr ⟨mvp63_18, List.forall_mem_cons.mpr ⟨mvp63_19, List.forall_mem_cons.mpr ⟨mvp63_20, List.forall_mem_cons.mpr ⟨mvp63_21, List.forall_mem_cons.mpr ⟨mvp63_22, List.forall_mem_cons.mpr ⟨mvp63_23, List.forall_mem_cons.mpr ⟨mvp63_24, List.forall_mem_cons.mpr ⟨mvp63_25, List.forall_mem_cons.mpr ⟨mvp63_26, List.forall_mem_cons.mpr ⟨mvp63_27, List.forall_mem_cons.mpr ⟨mvp63_28, List.forall_mem_cons.mpr ⟨mvp63_29, List.forall_mem_cons.mpr ⟨mvp63_30, List.forall_mem_cons.mpr ⟨mvp63_31, List.forall_mem_cons.mpr ⟨mvp63_32, List.forall_mem_cons.mpr ⟨mvp63_33, List.forall_mem_cons.mpr ⟨mvp63_34, List.forall_mem_cons.mpr ⟨mvp63_35, List.forall_mem_cons.mpr ⟨mvp63_36, List.forall_mem_cons.mpr ⟨mvp63_37, List.forall_mem_cons.mpr ⟨mvp63_38, List.forall_mem_cons.mpr ⟨mvp63_39, List.forall_mem_cons.mpr ⟨mvp63_40, List.forall_mem_cons.mpr ⟨mvp63_41, List.forall_mem_cons.mpr ⟨mvp63_42, List.forall_mem_cons.mpr ⟨mvp63_43, List.forall_mem_cons.mpr ⟨mvp63_44, List.forall_mem_cons.mpr ⟨mvp63_45, List.forall_mem_cons.mpr ⟨mvp63_46, List.forall_mem_cons.mpr ⟨mvp63_47, List.forall_mem_cons.mpr ⟨mvp63_48, List.forall_mem_cons.mpr ⟨mvp63_49, List.forall_mem_cons.mpr ⟨mvp63_50, List.forall_mem_cons.mpr ⟨mvp63_51, List.forall_mem_cons.mpr ⟨mvp63_52, List.forall_mem_cons.mpr ⟨mvp63_53, List.forall_mem_cons.mpr ⟨mvp63_54, List.forall_mem_cons.mpr ⟨mvp63_55, List.forall_mem_cons.mpr ⟨mvp63_56, List.forall_mem_cons.mpr ⟨mvp63_57, List.forall_mem_cons.mpr ⟨mvp63_58, List.forall_mem_cons.mpr ⟨mvp63_59, List.forall_mem_cons.mpr ⟨mvp63_60, List.forall_mem_cons.mpr ⟨mvp63_61, List.forall_mem_cons.mpr ⟨mvp63_62, List.forall_mem_cons.mpr ⟨mvp63_63, List.forall_mem_cons.mpr ⟨mvp63_64, List.forall_mem_cons.mpr ⟨mvp63_65, List.forall_mem_cons.mpr ⟨mvp63_66, List.forall_mem_cons.mpr ⟨mvp63_67, List.forall_mem_cons.mpr ⟨mvp63_68, List.forall_mem_cons.mpr ⟨mvp63_69, List.forall_mem_cons.mpr ⟨mvp63_70, List.forall_mem_cons.mpr ⟨mvp63_71, (fun _ h => by cases h)⟩⟩⟩⟩⟩⟩⟩⟩⟩⟩⟩⟩⟩⟩⟩⟩⟩⟩⟩⟩⟩⟩⟩⟩⟩⟩⟩⟩⟩⟩⟩⟩⟩⟩⟩⟩⟩⟩⟩⟩⟩⟩⟩⟩⟩⟩⟩⟩⟩⟩⟩⟩⟩⟩⟩⟩⟩⟩⟩⟩⟩⟩⟩⟩⟩⟩⟩⟩⟩⟩⟩⟩
def mvT64 : List (Nat × Nat × xI × Nat) := []
theorem mvo64 : ∀ e ∈ mvT64, xMV 64 e.1 e.2.1 e.2.2.1 e.2.2.2 := (fun _ h => by cases h)
def mvT65 : List (Nat × Nat × xI × Nat) := [(49, 0, iJ33_equals, 1), (49, 1, iJ33_equals, 1), (49, 2, iJ33_equals, 1), (49, 4, iJ33_equals, 1), (49, 5, iJ33_equals, 1), (49, 6, iJ33_equals, 1), (49, 7, iJ33_equals, 1), (49, 8, iJ11_equals, 1), (49, 9, iJ33_equals, 1), (49, 12, iJ33_equals, 1), (49, 13, iJ33_equals, 1), (49, 15, iJ19_equals, 1), (49, 16, iJ33_equals, 1), (49, 17, iJ33_equals, 1), (49, 18, iJ33_equals, 1), (49, 19, iJ33_equals, 1), (49, 20, iJ33_equals, 1), (49, 23, iJ33_equals, 1), (49, 24, iJ33_equals, 1), (49, 25, iJ33_equals, 1), (49, 26, iJ33_equals, 1), (49, 27, iJ33_equals, 1), (49, 28, iJ33_equals, 1), (49, 30, iJ33_equals, 1), (49, 31, iJ33_equals, 1), (49, 32, iJ33_equals, 1), (49, 33, iJ33_equals, 1), (49, 34, iJ33_equals, 1), (49, 35, iJ33_equals, 1), (49, 36, iJ8_equals, 1), (49, 37, iJ8_equals, 1), (49, 38, iJ8_equals, 1), (49, 39, iJ8_equals, 1), (49, 40, iJ8_equals, 1), (49, 41, iJ8_equals, 1), (49, 42, iJ8_equals, 1), (49, 43, iJ8_equals, 1), (49, 44, iJ8_equals, 1), (49, 45, iJ8_equals, 1), (49, 46, iJ8_equals, 1), (49, 47, iJ8_equals, 1), (49, 48, iJ8_equals, 1), (49, 49, iJ8_equals, 1), (49, 50, iJ33_equals, 1), (63, 22, iJ29_find, 3), (67, 22, iJ29_root, 0), (108, 11, iJ22_replacementNode, 2), (115, 11, iJ22_newTreeNode, 4), (119, 22, iJ29_untreeify, 1), (126, 22, iJ29_treeify, 1)]
theorem mvp65_0 : xMV 65 49 0 iJ33_equals 1 := ⟨kJ33_equals, q1140, _, _, _, rfl, Or.inl ⟨q1142, Or.inl q1210⟩⟩
theorem mvp65_1 : xMV 65 49 1 iJ33_equals 1 := ⟨kJ33_equals, q1140, _, _, _, rfl, Or.inl ⟨q1170, Or.inl q1210⟩⟩
theorem mvp65_2 : xMV 65 49 2 iJ33_equals 1 := ⟨kJ33_equals, q1140, _, _, _, rfl, Or.inl ⟨q1168, Or.inl q1210⟩⟩
theorem mvp65_3 : xMV 65 49 4 iJ33_equals 1 := ⟨kJ33_equals, q1140, _, _, _, rfl, Or.inl ⟨q1157, Or.inl q1210⟩⟩
theorem mvp65_4 : xMV 65 49 5 iJ33_equals 1 := ⟨kJ33_equals, q1140, _, _, _, rfl, Or.inl ⟨q1158, Or.inl q1210⟩⟩
theorem mvp65_5 : xMV 65 49 6 iJ33_equals 1 := ⟨kJ33_equals, q1140, _, _, _, rfl, Or.inl ⟨q1172, Or.inl q1210⟩⟩
theorem mvp65_6 : xMV 65 49 7 iJ33_equals 1 := ⟨kJ33_equals, q1140, _, _, _, rfl, Or.inl ⟨q1193, Or.inl q1210⟩⟩
theorem mvp65_7 : xMV 65 49 8 iJ11_equals 1 := ⟨kJ11_equals, q714, _, _, _, rfl, Or.inr ⟨_, _, q1192, q1210, q1141, ⟨by decide +kernel, by decide +kernel⟩, by decide +kernel, Or.inl q1138⟩⟩
theorem mvp65_8 : xMV 65 49 9 iJ33_equals 1 := ⟨kJ33_equals, q1140, _, _, _, rfl, Or.inl ⟨q1181, Or.inl q1210⟩⟩
theorem mvp65_9 : xMV 65 49 12 iJ33_equals 1 := ⟨kJ33_equals, q1140, _, _, _, rfl, Or.inl ⟨q1152, Or.inl q1210⟩⟩
theorem mvp65_10 : xMV 65 49 13 iJ33_equals 1 := ⟨kJ33_equals, q1140, _, _, _, rfl, Or.inl ⟨q1156, Or.inl q1210⟩⟩
theorem mvp65_11 : xMV 65 49 15 iJ19_equals 1 := ⟨kJ19_equals, q1185, _, _, _, rfl, Or.inr ⟨_, _, q1184, q1210, q1141, ⟨by decide +kernel, by decide +kernel⟩, by decide +kernel, Or.inl q1138⟩⟩
theorem mvp65_12 : xMV 65 49 16 iJ33_equals 1 := ⟨kJ33_equals, q1140, _, _, _, rfl, Or.inl ⟨q1145, Or.inl q1210⟩⟩
theorem mvp65_13 : xMV 65 49 17 iJ33_equals 1 := ⟨kJ33_equals, q1140, _, _, _, rfl, Or.inl ⟨q1143, Or.inl q1210⟩⟩
theorem mvp65_14 : xMV 65 49 18 iJ33_equals 1 := ⟨kJ33_equals, q1140, _, _, _, rfl, Or.inl ⟨q1173, Or.inl q1210⟩⟩
theorem mvp65_15 : xMV 65 49 19 iJ33_equals 1 := ⟨kJ33_equals, q1140, _, _, _, rfl, Or.inl ⟨q1154, Or.inl q1210⟩⟩
theorem mvp65_16 : xMV 65 49 20 iJ33_equals 1 := ⟨kJ33_equals, q1140, _, _, _, rfl, Or.inl ⟨q1169, Or.inl q1210⟩⟩
theorem mvp65_17 : xMV 65 49 23 iJ33_equals 1 := ⟨kJ33_equals, q1140, _, _, _, rfl, Or.inl ⟨q1167, Or.inl q1210⟩⟩
theorem mvp65_18 : xMV 65 49 24 iJ33_equals 1 := ⟨kJ33_equals, q1140, _, _, _, rfl, Or.inl ⟨q1159, Or.inl q1210⟩⟩
theorem mvp65_19 : xMV 65 49 25 iJ33_equals 1 := ⟨kJ33_equals, q1140, _, _, _, rfl, Or.inl ⟨q1151, Or.inl q1210⟩⟩
theorem mvp65_20 : xMV 65 49 26 iJ33_equals 1 := ⟨kJ33_equals, q1140, _, _, _, rfl, Or.inl ⟨q1153, Or.inl q1210⟩⟩
theorem mvp65_21 : xMV 65 49 27 iJ33_equals 1 := ⟨kJ33_equals, q1140, _, _, _, rfl, Or.inl ⟨q1144, Or.inl q1210⟩⟩
theorem mvp65_22 : xMV 65 49 28 iJ33_equals 1 := ⟨kJ33_equals, q1140, _, _, _, rfl, Or.inl ⟨q1171, Or.inl q1210⟩⟩
theorem mvp65_23 : xMV 65 49 30 iJ33_equals 1 := ⟨kJ33_equals, q1140, _, _, _, rfl, Or.inl ⟨q1183, Or.inl q1210⟩⟩
theorem mvp65_24 : xMV 65 49 31 iJ33_equals 1 := ⟨kJ33_equals, q1140, _, _, _, rfl, Or.inl ⟨q1182, Or.inl q1210⟩⟩
theorem mvp65_25 : xMV 65 49 32 iJ33_equals 1 := ⟨kJ33_equals, q1140, _, _, _, rfl, Or.inl ⟨q1180, Or.inl q1210⟩⟩
theorem mvp65_26 : xMV 65 49 33 iJ33_equals 1 := ⟨kJ33_equals, q1140, _, _, _, rfl, Or.inl ⟨q1177, Or.inl q1210⟩⟩
theorem mvp65_27 : xMV 65 49 34 iJ33_equals 1 := ⟨kJ33_equals, q1140, _, _, _, rfl, Or.inl ⟨q1179, Or.inl q1210⟩⟩
theorem mvp65_28 : xMV 65 49 35 iJ33_equals 1 := ⟨kJ33_equals, q1140, _, _, _, rfl, Or.inl ⟨q1178, Or.inl q1210⟩⟩
theorem mvp65_29 : xMV 65 49 36 iJ8_equals 1 := ⟨kJ8_equals, q1147, _, _, _, rfl, Or.inr ⟨_, _, q1146, q1210, q1141, ⟨by decide +kernel, by decide +kernel⟩, by decide +kernel, Or.inl q1138⟩⟩
theorem mvp65_30 : xMV 65 49 37 iJ8_equals 1 := ⟨kJ8_equals, q1147, _, _, _, rfl, Or.inr ⟨_, _, q1149, q1210, q1141, ⟨by decide +kernel, by decide +kernel⟩, by decide +kernel, Or.inl q1138⟩⟩
theorem mvp65_31 : xMV 65 49 38 iJ8_equals 1 := ⟨kJ8_equals, q1147, _, _, _, rfl, Or.inr ⟨_, _, q1150, q1210, q1141, ⟨by decide +kernel, by decide +kernel⟩, by decide +kernel, Or.inl q1138⟩⟩
theorem mvp65_32 : xMV 65 49 39 iJ8_equals 1 := ⟨kJ8_equals, q1147, _, _, _, rfl, Or.inr ⟨_, _, q1160, q1210, q1141, ⟨by decide +kernel, by decide +kernel⟩, by decide +kernel, Or.inl q1138⟩⟩
theorem mvp65_33 : xMV 65 49 40 iJ8_equals 1 := ⟨kJ8_equals, q1147, _, _, _, rfl, Or.inr ⟨_, _, q1161, q1210, q1141, ⟨by decide +kernel, by decide +kernel⟩, by decide +kernel, Or.inl q1138⟩⟩
theorem mvp65_34 : xMV 65 49 41 iJ8_equals 1 := ⟨kJ8_equals, q1147, _, _, _, rfl, Or.inr ⟨_, _, q1162, q1210, q1141, ⟨by decide +kernel, by decide +kernel⟩, by decide +kernel, Or.inl q1138⟩⟩
theorem mvp65_35 : xMV 65 49 42 iJ8_equals 1 := ⟨kJ8_equals, q1147, _, _, _, rfl, Or.inr ⟨_, _, q1163, q1210, q1141, ⟨by decide +kernel, by decide +kernel⟩, by decide +kernel, Or.inl q1138⟩⟩
theorem mvp65_36 : xMV 65 49 43 iJ8_equals 1 := ⟨kJ8_equals, q1147, _, _, _, rfl, Or.inr ⟨_, _, q1164, q1210, q1141, ⟨by decide +kernel, by decide +kernel⟩, by decide +kernel, Or.inl q1138⟩⟩
theorem mvp65_37 : xMV 65 49 44 iJ8_equals 1 := ⟨kJ8_equals, q1147, _, _, _, rfl, Or.inr ⟨_, _, q1165, q1210, q1141, ⟨by decide +kernel, by decide +kernel⟩, by decide +kernel, Or.inl q1138⟩⟩
theorem mvp65_38 : xMV 65 49 45 iJ8_equals 1 := ⟨kJ8_equals, q1147, _, _, _, rfl, Or.inr ⟨_, _, q1174, q1210, q1141, ⟨by decide +kernel, by decide +kernel⟩, by decide +kernel, Or.inl q1138⟩⟩
theorem mvp65_39 : xMV 65 49 46 iJ8_equals 1 := ⟨kJ8_equals, q1147, _, _, _, rfl, Or.inr ⟨_, _, q1175, q1210, q1141, ⟨by decide +kernel, by decide +kernel⟩, by decide +kernel, Or.inl q1138⟩⟩
theorem mvp65_40 : xMV 65 49 47 iJ8_equals 1 := ⟨kJ8_equals, q1147, _, _, _, rfl, Or.inr ⟨_, _, q1176, q1210, q1141, ⟨by decide +kernel, by decide +kernel⟩, by decide +kernel, Or.inl q1138⟩⟩
theorem mvp65_41 : xMV 65 49 48 iJ8_equals 1 := ⟨kJ8_equals, q1147, _, _, _, rfl, Or.inr ⟨_, _, q1155, q1210, q1141, ⟨by decide +kernel, by decide +kernel⟩, by decide +kernel, Or.inl q1138⟩⟩
theorem mvp65_42 : xMV 65 49 49 iJ8_equals 1 := ⟨kJ8_equals, q1147, _, _, _, rfl, Or.inr ⟨_, _, q1166, q1210, q1141, ⟨by decide +kernel, by decide +kernel⟩, by decide +kernel, Or.inl q1138⟩⟩
theorem mvp65_43 : xMV 65 49 50 iJ33_equals 1 := ⟨kJ33_equals, q1140, _, _, _, rfl, Or.inl ⟨q1195, Or.inl q1210⟩⟩
theorem mvp65_44 : xMV 65 63 22 iJ29_find 3 := ⟨kJ29_find, q1207, _, _, _, rfl, Or.inl ⟨q1208, Or.inl q1206⟩⟩
theorem mvp65_45 : xMV 65 67 22 iJ29_root 0 := ⟨kJ29_root, q1203, _, _, _, rfl, Or.inl ⟨q1204, Or.inl q1202⟩⟩
theorem mvp65_46 : xMV 65 108 11 iJ22_replacementNode 2 := ⟨kJ22_replacementNode, q1832, _, _, _, rfl, Or.inl ⟨q1833, Or.inl q1831⟩⟩
theorem mvp65_47 : xMV 65 115 11 iJ22_newTreeNode 4 := ⟨kJ22_newTreeNode, q1892, _, _, _, rfl, Or.inl ⟨q1893, Or.inl q1891⟩⟩
theorem mvp65_48 : xMV 65 119 22 iJ29_untreeify 1 := ⟨kJ29_untreeify, q1828, _, _, _, rfl, Or.inl ⟨q1829, Or.inl q1827⟩⟩
theorem mvp65_49 : xMV 65 126 22 iJ29_treeify 1 := ⟨kJ29_treeify, q1866, _, _, _, rfl, Or.inl ⟨q1867, Or.inl q1865⟩⟩
theorem mvo65 : ∀ e ∈ mvT65, xMV 65 e.1 e.2.1 e.2.2.1 e.2.2.2 := List.forall_mem_cons.mpr ⟨mvp65_0, List.forall_mem_cons.mpr ⟨mvp65_1, List.forall_mem_cons.mpr ⟨mvp65_2, List.forall_mem_cons.mpr ⟨mvp65_3, List.forall_mem_cons.mpr ⟨mvp65_4, List.forall_mem_cons.mpr ⟨mvp65_5, List.forall_mem_cons.mpr ⟨mvp65_6, List.forall_mem_cons.mpr ⟨mvp65_7, List.forall_mem_cons.mpr ⟨mvp65_8, List.forall_mem_cons.mpr ⟨mvp65_9, List.forall_mem_cons.mpr ⟨mvp65_10, List.forall_mem_cons.mpr ⟨mvp65_11, List.forall_mem_cons.mpr ⟨mvp65_12, List.forall_mem_cons.mpr ⟨mvp65_13, List.forall_mem_cons.mpr ⟨mvp65_14, List.forall_mem_cons.mpr ⟨mvp65_15, List.forall_mem_cons.mpr ⟨mvp65_16, List.forall_mem_cons.mpr ⟨mvp65_17, List.forall_mem_cons.mpr ⟨mvp65_18, List.forall_mem_cons.mpr ⟨mvp65_19, List.forall_mem_cons.mpr ⟨mvp65_20, List.forall_mem_cons.mpr ⟨mvp65_21, List.forall_mem_cons.mpr ⟨mvp65_22, List.forall_mem_cons.mpr ⟨mvp65_23, List.forall_mem_cons.mpr ⟨mvp65_24, List.forall_mem_cons.mpr ⟨mvp65_25, List.forall_mem_cons.mpr ⟨mvp65_26, List.forall_mem_cons.mpr ⟨mvp65_27, List.forall_mem_cons.mpr ⟨mvp65_28, List.forall_mem_cons.mpr ⟨mvp65_29, List.forall_mem_cons.mpr ⟨mvp65_30, List.forall_mem_cons.mpr ⟨mvp65_31, List.forall_mem_cons.mpr ⟨mvp65_32, List.forall_mem_cons.mpr ⟨mvp65_33, List.forall_mem_cons.mpr ⟨mvp65_34, List.forall_mem_cons.mpr ⟨mvp65_35, List.forall_mem_cons.mpr ⟨mvp65_36, List.forall_mem_cons.mpr ⟨mvp65_37, List.forall_mem_cons.mpr ⟨mvp65_38, List.forall_mem_cons.mpr ⟨mvp65_39, List.forall_mem_cons.mpr ⟨mvp65_40, List.forall_mem_cons.mpr ⟨mvp65_41, List.forall_mem_cons.mpr ⟨mvp65_42, List.forall_mem_cons.mpr ⟨mvp65_43, List.forall_mem_cons.mpr ⟨mvp65_44, List.forall_mem_cons.mpr ⟨mvp65_45, List.forall_mem_cons.mpr ⟨mvp65_46, List.forall_mem_cons.mpr ⟨mvp65_47, List.forall_mem_cons.mpr ⟨mvp65_48, List.forall_mem_cons.mpr ⟨mvp65_49, (fun _ h => by cases h)⟩⟩⟩⟩⟩⟩⟩⟩⟩⟩⟩⟩⟩⟩⟩⟩⟩⟩⟩⟩⟩⟩⟩⟩⟩⟩⟩⟩⟩⟩⟩⟩⟩⟩⟩⟩⟩⟩⟩⟩⟩⟩⟩⟩⟩⟩⟩⟩⟩⟩
def mvT66 : List (Nat × Nat × xI × Nat) := []
theorem mvo66 : ∀ e ∈ mvT66, xMV 66 e.1 e.2.1 e.2.2.1 e.2.2.2 := (fun _ h => by cases h)
def mvT67 : List (Nat × Nat × xI × Nat) := []
theorem mvo67 : ∀ e ∈ mvT67, xMV 67 e.1 e.2.1 e.2.2.1 e.2.2.2 := (fun _ h => by cases h)
def mvT68 : List (Nat × Nat × xI × Nat) := []
theorem mvo68 : ∀ e ∈ mvT68, xMV 68 e.1 e.2.1 e.2.2.1 e.2.2.2 := (fun _ h => by cases h)
def mvT69 : List (Nat × Nat × xI × Nat) := []
theorem mvo69 : ∀ e ∈ mvT69, xMV 69 e.1 e.2.1 e.2.2.1 e.2.2.2 := (fun _ h => by cases h)
def mvT70 : List (Nat × Nat × xI × Nat) := [(30, 50, iJ24_getLongUnaligned, 2), (54, 50, iJ24_getIntUnaligned, 2), (94, 7, iJ10_append_3, 1), (98, 7, iJ10_append_2, 1), (101, 7, iJ10_toString, 0)]
theorem mvp70_0 : xMV 70 30 50 iJ24_getLongUnaligned 2 := ⟨kJ24_getLongUnaligned, q1351, _, _, _, rfl, Or.inl ⟨q1352, Or.inl q1350⟩⟩
theorem mvp70_1 : xMV 70 54 50 iJ24_getIntUnaligned 2 := ⟨kJ24_getIntUnaligned, q1422, _, _, _, rfl, Or.inl ⟨q1423, Or.inl q1421⟩⟩
theorem mvp70_2 : xMV 70 94 7 iJ10_append_3 1 := ⟨kJ10_append_3, q618, _, _, _, rfl, Or.inl ⟨q619, Or.inl q1126⟩⟩
theorem mvp70_3 : xMV 70 98 7 iJ10_append_2 1 := ⟨kJ10_append_2, q583, _, _, _, rfl, Or.inl ⟨q584, Or.inl q1127⟩⟩
theorem mvp70_4 : xMV 70 101 7 iJ10_toString 0 := ⟨kJ10_toString, q502, _, _, _, rfl, Or.inl ⟨q503, Or.inl q1128⟩⟩
theorem mvo70 : ∀ e ∈ mvT70, xMV 70 e.1 e.2.1 e.2.2.1 e.2.2.2 := List.forall_mem_cons.mpr ⟨mvp70_0, List.forall_mem_cons.mpr ⟨mvp70_1, List.forall_mem_cons.mpr ⟨mvp70_2, List.forall_mem_cons.mpr ⟨mvp70_3, List.forall_mem_cons.mpr ⟨mvp70_4, (fun _ h => by cases h)⟩⟩⟩⟩⟩
def mvT71 : List (Nat × Nat × xI × Nat) := []
theorem mvo71 : ∀ e ∈ mvT71, xMV 71 e.1 e.2.1 e.2.2.1 e.2.2.2 := (fun _ h => by cases h)
def mvL (oc : Nat) : List (Nat × Nat × xI × Nat) := match oc with
  | 0 => mvT0
  | 1 => mvT1
  | 2 => mvT2
  | 3 => mvT3
  | 4 => mvT4
  | 5 => mvT5
  | 6 => mvT6
  | 7 => mvT7
  | 8 => mvT8
  | 9 => mvT9
  | 10 => mvT10
  | 11 => mvT11
  | 12 => mvT12
  | 13 => mvT13
  | 14 => mvT14
  | 15 => mvT15
  | 16 => mvT16
  | 17 => mvT17
  | 18 => mvT18
  | 19 => mvT19
  | 20 => mvT20
  | 21 => mvT21
  | 22 => mvT22
  | 23 => mvT23
  | 24 => mvT24
  | 25 => mvT25
  | 26 => mvT26
  | 27 => mvT27
  | 28 => mvT28
  | 29 => mvT29
  | 30 => mvT30
  | 31 => mvT31
  | 32 => mvT32
  | 33 => mvT33
  | 34 => mvT34
  | 35 => mvT35
  | 36 => mvT36
  | 37 => mvT37
  | 38 => mvT38
  | 39 => mvT39
  | 40 => mvT40
  | 41 => mvT41
  | 42 => mvT42
  | 43 => mvT43
  | 44 => mvT44
  | 45 => mvT45
  | 46 => mvT46
  | 47 => mvT47
  | 48 => mvT48
  | 49 => mvT49
  | 50 => mvT50
  | 51 => mvT51
  | 52 => mvT52
  | 53 => mvT53
  | 54 => mvT54
  | 55 => mvT55
  | 56 => mvT56
  | 57 => mvT57
  | 58 => mvT58
  | 59 => mvT59
  | 60 => mvT60
  | 61 => mvT61
  | 62 => mvT62
  | 63 => mvT63
  | 64 => mvT64
  | 65 => mvT65
  | 66 => mvT66
  | 67 => mvT67
  | 68 => mvT68
  | 69 => mvT69
  | 70 => mvT70
  | 71 => mvT71
  | _ => []
theorem mvL_ok : ∀ oc, ∀ e ∈ mvL oc, xMV oc e.1 e.2.1 e.2.2.1 e.2.2.2 := by
  intro oc
  unfold mvL
  split
  · exact mvo0
  · exact mvo1
  · exact mvo2
  · exact mvo3
  · exact mvo4
  · exact mvo5
  · exact mvo6
  · exact mvo7
  · exact mvo8
  · exact mvo9
  · exact mvo10
  · exact mvo11
  · exact mvo12
  · exact mvo13
  · exact mvo14
  · exact mvo15
  · exact mvo16
  · exact mvo17
  · exact mvo18
  · exact mvo19
  · exact mvo20
  · exact mvo21
  · exact mvo22
  · exact mvo23
  · exact mvo24
  · exact mvo25
  · exact mvo26
  · exact mvo27
  · exact mvo28
  · exact mvo29
  · exact mvo30
  · exact mvo31
  · exact mvo32
  · exact mvo33
  · exact mvo34
  · exact mvo35
  · exact mvo36
  · exact mvo37
  · exact mvo38
  · exact mvo39
  · exact mvo40
  · exact mvo41
  · exact mvo42
  · exact mvo43
  · exact mvo44
  · exact mvo45
  · exact mvo46
  · exact mvo47
  · exact mvo48
  · exact mvo49
  · exact mvo50
  · exact mvo51
  · exact mvo52
  · exact mvo53
  · exact mvo54
  · exact mvo55
  · exact mvo56
  · exact mvo57
  · exact mvo58
  · exact mvo59
  · exact mvo60
  · exact mvo61
  · exact mvo62
  · exact mvo63
  · exact mvo64
  · exact mvo65
  · exact mvo66
  · exact mvo67
  · exact mvo68
  · exact mvo69
  · exact mvo70
  · exact mvo71
  · intro e h; cases h
def xMF (oc idx ci : Nat) (I : xI) (n : Nat) : Prop := xMk I n ∧ Cond.instanceMethod (iY I) ∈ lw_all ∧ iT I = [] ∧ ∃ (C : String) (T : u_T) (N : Nat) (x : MethodName), CL[ci]? = some (C, T, N) ∧
  Cond.selects C x (iY I) ∈ lw_all ∧ Cond.methodLink (ocN oc) idx x ∈ lw_all ∧ Cond.declares x ∈ lw_tbl ∧ Cond.interfaceMethod x.cls x.cls x.name x.desc ∈ lw_tbl ∧ Cond.publicMethod (iY I) ∈ lw_tbl ∧ Cond.unhidden C x.name x.desc ∈ lw_tbl ∧ Cond.castable C x.cls ∈ lw_tbl ∧ (x.cls ≠ "java/lang/invoke/MethodHandle" ∧ x.cls ≠ "java/lang/invoke/VarHandle") ∧ (parseMethodDescriptor x.desc).map (fun d => d.parameters.length) = some n
def mfT0 : List (Nat × Nat × xI × Nat) := [(19, 3, iJ2_size, 0), (29, 3, iJ2_get, 1), (160, 29, iJ32_hasNext, 0), (166, 29, iJ32_next, 0), (278, 24, iX19_holds, 1), (278, 25, iX20_holds, 1), (278, 26, iX21_holds, 1), (278, 27, iX22_holds, 1), (278, 28, iX24_holds, 1), (298, 3, iJ2_iterator, 0)]
theorem mfp0_0 : xMF 0 19 3 iJ2_size 0 := ⟨kJ2_size, q337, rfl, _, _, _, _, rfl, q1961, q2459, q1960, q1959, q1963, q1962, q941, ⟨by decide +kernel, by decide +kernel⟩, by decide +kernel⟩
theorem mfp0_1 : xMF 0 29 3 iJ2_get 1 := ⟨kJ2_get, q944, rfl, _, _, _, _, rfl, q942, q2585, q940, q939, q945, q943, q941, ⟨by decide +kernel, by decide +kernel⟩, by decide +kernel⟩
theorem mfp0_2 : xMF 0 160 29 iJ32_hasNext 0 := ⟨kJ32_hasNext, q2334, rfl, _, _, _, _, rfl, q2332, q2406, q2330, q2329, q2335, q2333, q2331, ⟨by decide +kernel, by decide +kernel⟩, by decide +kernel⟩
theorem mfp0_3 : xMF 0 166 29 iJ32_next 0 := ⟨kJ32_next, q2343, rfl, _, _, _, _, rfl, q2341, q2408, q2340, q2339, q2344, q2342, q2331, ⟨by decide +kernel, by decide +kernel⟩, by decide +kernel⟩
theorem mfp0_4 : xMF 0 278 24 iX19_holds 1 := ⟨kX19_holds, q2253, rfl, _, _, _, _, rfl, q2251, q2494, q2206, q2205, q2254, q2252, q2250, ⟨by decide +kernel, by decide +kernel⟩, by decide +kernel⟩
theorem mfp0_5 : xMF 0 278 25 iX20_holds 1 := ⟨kX20_holds, q2220, rfl, _, _, _, _, rfl, q2218, q2494, q2206, q2205, q2221, q2219, q2217, ⟨by decide +kernel, by decide +kernel⟩, by decide +kernel⟩
theorem mfp0_6 : xMF 0 278 26 iX21_holds 1 := ⟨kX21_holds, q2228, rfl, _, _, _, _, rfl, q2226, q2494, q2206, q2205, q2229, q2227, q2225, ⟨by decide +kernel, by decide +kernel⟩, by decide +kernel⟩
theorem mfp0_7 : xMF 0 278 27 iX22_holds 1 := ⟨kX22_holds, q2210, rfl, _, _, _, _, rfl, q2208, q2494, q2206, q2205, q2211, q2209, q2207, ⟨by decide +kernel, by decide +kernel⟩, by decide +kernel⟩
theorem mfp0_8 : xMF 0 278 28 iX24_holds 1 := ⟨kX24_holds, q2264, rfl, _, _, _, _, rfl, q2262, q2494, q2206, q2205, q2265, q2263, q2261, ⟨by decide +kernel, by decide +kernel⟩, by decide +kernel⟩
theorem mfp0_9 : xMF 0 298 3 iJ2_iterator 0 := ⟨kJ2_iterator, q2305, rfl, _, _, _, _, rfl, q2474, q2471, q2473, q2472, q2476, q2475, q941, ⟨by decide +kernel, by decide +kernel⟩, by decide +kernel⟩
theorem mfo0 : ∀ e ∈ mfT0, xMF 0 e.1 e.2.1 e.2.2.1 e.2.2.2 := List.forall_mem_cons.mpr ⟨mfp0_0, List.forall_mem_cons.mpr ⟨mfp0_1, List.forall_mem_cons.mpr ⟨mfp0_2, List.forall_mem_cons.mpr ⟨mfp0_3, List.forall_mem_cons.mpr ⟨mfp0_4, List.forall_mem_cons.mpr ⟨mfp0_5, List.forall_mem_cons.mpr ⟨mfp0_6, List.forall_mem_cons.mpr ⟨mfp0_7, List.forall_mem_cons.mpr ⟨mfp0_8, List.forall_mem_cons.mpr ⟨mfp0_9, (fun _ h => by cases h)⟩⟩⟩⟩⟩⟩⟩⟩⟩⟩
def mfT1 : List (Nat × Nat × xI × Nat) := []
theorem mfo1 : ∀ e ∈ mfT1, xMF 1 e.1 e.2.1 e.2.2.1 e.2.2.2 := (fun _ h => by cases h)
def mfT2 : List (Nat × Nat × xI × Nat) := []
theorem mfo2 : ∀ e ∈ mfT2, xMF 2 e.1 e.2.1 e.2.2.1 e.2.2.2 := (fun _ h => by cases h)
def mfT3 : List (Nat × Nat × xI × Nat) := []
theorem mfo3 : ∀ e ∈ mfT3, xMF 3 e.1 e.2.1 e.2.2.1 e.2.2.2 := (fun _ h => by cases h)
def mfT4 : List (Nat × Nat × xI × Nat) := []
theorem mfo4 : ∀ e ∈ mfT4, xMF 4 e.1 e.2.1 e.2.2.1 e.2.2.2 := (fun _ h => by cases h)
def mfT5 : List (Nat × Nat × xI × Nat) := []
theorem mfo5 : ∀ e ∈ mfT5, xMF 5 e.1 e.2.1 e.2.2.1 e.2.2.2 := (fun _ h => by cases h)
def mfT6 : List (Nat × Nat × xI × Nat) := []
theorem mfo6 : ∀ e ∈ mfT6, xMF 6 e.1 e.2.1 e.2.2.1 e.2.2.2 := (fun _ h => by cases h)
def mfT7 : List (Nat × Nat × xI × Nat) := [(13, 24, iX19_holds, 1), (13, 25, iX20_holds, 1), (13, 26, iX21_holds, 1), (13, 27, iX22_holds, 1), (13, 28, iX24_holds, 1)]
theorem mfp7_0 : xMF 7 13 24 iX19_holds 1 := ⟨kX19_holds, q2253, rfl, _, _, _, _, rfl, q2251, q2224, q2206, q2205, q2254, q2252, q2250, ⟨by decide +kernel, by decide +kernel⟩, by decide +kernel⟩
theorem mfp7_1 : xMF 7 13 25 iX20_holds 1 := ⟨kX20_holds, q2220, rfl, _, _, _, _, rfl, q2218, q2224, q2206, q2205, q2221, q2219, q2217, ⟨by decide +kernel, by decide +kernel⟩, by decide +kernel⟩
theorem mfp7_2 : xMF 7 13 26 iX21_holds 1 := ⟨kX21_holds, q2228, rfl, _, _, _, _, rfl, q2226, q2224, q2206, q2205, q2229, q2227, q2225, ⟨by decide +kernel, by decide +kernel⟩, by decide +kernel⟩
theorem mfp7_3 : xMF 7 13 27 iX22_holds 1 := ⟨kX22_holds, q2210, rfl, _, _, _, _, rfl, q2208, q2224, q2206, q2205, q2211, q2209, q2207, ⟨by decide +kernel, by decide +kernel⟩, by decide +kernel⟩
theorem mfp7_4 : xMF 7 13 28 iX24_holds 1 := ⟨kX24_holds, q2264, rfl, _, _, _, _, rfl, q2262, q2224, q2206, q2205, q2265, q2263, q2261, ⟨by decide +kernel, by decide +kernel⟩, by decide +kernel⟩
theorem mfo7 : ∀ e ∈ mfT7, xMF 7 e.1 e.2.1 e.2.2.1 e.2.2.2 := List.forall_mem_cons.mpr ⟨mfp7_0, List.forall_mem_cons.mpr ⟨mfp7_1, List.forall_mem_cons.mpr ⟨mfp7_2, List.forall_mem_cons.mpr ⟨mfp7_3, List.forall_mem_cons.mpr ⟨mfp7_4, (fun _ h => by cases h)⟩⟩⟩⟩⟩
def mfT8 : List (Nat × Nat × xI × Nat) := []
theorem mfo8 : ∀ e ∈ mfT8, xMF 8 e.1 e.2.1 e.2.2.1 e.2.2.2 := (fun _ h => by cases h)
def mfT9 : List (Nat × Nat × xI × Nat) := []
theorem mfo9 : ∀ e ∈ mfT9, xMF 9 e.1 e.2.1 e.2.2.1 e.2.2.2 := (fun _ h => by cases h)
def mfT10 : List (Nat × Nat × xI × Nat) := []
theorem mfo10 : ∀ e ∈ mfT10, xMF 10 e.1 e.2.1 e.2.2.1 e.2.2.2 := (fun _ h => by cases h)
def mfT11 : List (Nat × Nat × xI × Nat) := []
theorem mfo11 : ∀ e ∈ mfT11, xMF 11 e.1 e.2.1 e.2.2.1 e.2.2.2 := (fun _ h => by cases h)
def mfT12 : List (Nat × Nat × xI × Nat) := [(36, 3, iJ2_get, 1), (209, 3, iJ2_size, 0), (210, 3, iJ2_contains, 1), (213, 3, iJ2_add, 1)]
theorem mfp12_0 : xMF 12 36 3 iJ2_get 1 := ⟨kJ2_get, q944, rfl, _, _, _, _, rfl, q942, q938, q940, q939, q945, q943, q941, ⟨by decide +kernel, by decide +kernel⟩, by decide +kernel⟩
theorem mfp12_1 : xMF 12 209 3 iJ2_size 0 := ⟨kJ2_size, q337, rfl, _, _, _, _, rfl, q1961, q1958, q1960, q1959, q1963, q1962, q941, ⟨by decide +kernel, by decide +kernel⟩, by decide +kernel⟩
theorem mfp12_2 : xMF 12 210 3 iJ2_contains 1 := ⟨kJ2_contains, q1970, rfl, _, _, _, _, rfl, q1968, q1965, q1967, q1966, q1971, q1969, q941, ⟨by decide +kernel, by decide +kernel⟩, by decide +kernel⟩
theorem mfp12_3 : xMF 12 213 3 iJ2_add 1 := ⟨kJ2_add, q781, rfl, _, _, _, _, rfl, q1986, q1983, q1985, q1984, q1988, q1987, q941, ⟨by decide +kernel, by decide +kernel⟩, by decide +kernel⟩
theorem mfo12 : ∀ e ∈ mfT12, xMF 12 e.1 e.2.1 e.2.2.1 e.2.2.2 := List.forall_mem_cons.mpr ⟨mfp12_0, List.forall_mem_cons.mpr ⟨mfp12_1, List.forall_mem_cons.mpr ⟨mfp12_2, List.forall_mem_cons.mpr ⟨mfp12_3, (fun _ h => by cases h)⟩⟩⟩⟩
def mfT13 : List (Nat × Nat × xI × Nat) := []
theorem mfo13 : ∀ e ∈ mfT13, xMF 13 e.1 e.2.1 e.2.2.1 e.2.2.2 := (fun _ h => by cases h)
def mfT14 : List (Nat × Nat × xI × Nat) := [(30, 24, iX19_holds, 1), (30, 25, iX20_holds, 1), (30, 26, iX21_holds, 1), (30, 27, iX22_holds, 1), (30, 28, iX24_holds, 1)]
theorem mfp14_0 : xMF 14 30 24 iX19_holds 1 := ⟨kX19_holds, q2253, rfl, _, _, _, _, rfl, q2251, q2260, q2206, q2205, q2254, q2252, q2250, ⟨by decide +kernel, by decide +kernel⟩, by decide +kernel⟩
theorem mfp14_1 : xMF 14 30 25 iX20_holds 1 := ⟨kX20_holds, q2220, rfl, _, _, _, _, rfl, q2218, q2260, q2206, q2205, q2221, q2219, q2217, ⟨by decide +kernel, by decide +kernel⟩, by decide +kernel⟩
theorem mfp14_2 : xMF 14 30 26 iX21_holds 1 := ⟨kX21_holds, q2228, rfl, _, _, _, _, rfl, q2226, q2260, q2206, q2205, q2229, q2227, q2225, ⟨by decide +kernel, by decide +kernel⟩, by decide +kernel⟩
theorem mfp14_3 : xMF 14 30 27 iX22_holds 1 := ⟨kX22_holds, q2210, rfl, _, _, _, _, rfl, q2208, q2260, q2206, q2205, q2211, q2209, q2207, ⟨by decide +kernel, by decide +kernel⟩, by decide +kernel⟩
theorem mfp14_4 : xMF 14 30 28 iX24_holds 1 := ⟨kX24_holds, q2264, rfl, _, _, _, _, rfl, q2262, q2260, q2206, q2205, q2265, q2263, q2261, ⟨by decide +kernel, by decide +kernel⟩, by decide +kernel⟩
theorem mfo14 : ∀ e ∈ mfT14, xMF 14 e.1 e.2.1 e.2.2.1 e.2.2.2 := List.forall_mem_cons.mpr ⟨mfp14_0, List.forall_mem_cons.mpr ⟨mfp14_1, List.forall_mem_cons.mpr ⟨mfp14_2, List.forall_mem_cons.mpr ⟨mfp14_3, List.forall_mem_cons.mpr ⟨mfp14_4, (fun _ h => by cases h)⟩⟩⟩⟩⟩
def mfT15 : List (Nat × Nat × xI × Nat) := []
theorem mfo15 : ∀ e ∈ mfT15, xMF 15 e.1 e.2.1 e.2.2.1 e.2.2.2 := (fun _ h => by cases h)
def mfT16 : List (Nat × Nat × xI × Nat) := []
theorem mfo16 : ∀ e ∈ mfT16, xMF 16 e.1 e.2.1 e.2.2.1 e.2.2.2 := (fun _ h => by cases h)
def mfT17 : List (Nat × Nat × xI × Nat) := []
theorem mfo17 : ∀ e ∈ mfT17, xMF 17 e.1 e.2.1 e.2.2.1 e.2.2.2 := (fun _ h => by cases h)
def mfT18 : List (Nat × Nat × xI × Nat) := []
theorem mfo18 : ∀ e ∈ mfT18, xMF 18 e.1 e.2.1 e.2.2.1 e.2.2.2 := (fun _ h => by cases h)
def mfT19 : List (Nat × Nat × xI × Nat) := []
theorem mfo19 : ∀ e ∈ mfT19, xMF 19 e.1 e.2.1 e.2.2.1 e.2.2.2 := (fun _ h => by cases h)
def mfT20 : List (Nat × Nat × xI × Nat) := []
theorem mfo20 : ∀ e ∈ mfT20, xMF 20 e.1 e.2.1 e.2.2.1 e.2.2.2 := (fun _ h => by cases h)
def mfT21 : List (Nat × Nat × xI × Nat) := []
theorem mfo21 : ∀ e ∈ mfT21, xMF 21 e.1 e.2.1 e.2.2.1 e.2.2.2 := (fun _ h => by cases h)
def mfT22 : List (Nat × Nat × xI × Nat) := []
theorem mfo22 : ∀ e ∈ mfT22, xMF 22 e.1 e.2.1 e.2.2.1 e.2.2.2 := (fun _ h => by cases h)
def mfT23 : List (Nat × Nat × xI × Nat) := [(45, 29, iJ32_hasNext, 0), (51, 29, iJ32_next, 0), (112, 24, iX19_holds, 1), (112, 25, iX20_holds, 1), (112, 26, iX21_holds, 1), (112, 27, iX22_holds, 1), (112, 28, iX24_holds, 1)]
theorem mfp23_0 : xMF 23 45 29 iJ32_hasNext 0 := ⟨kJ32_hasNext, q2334, rfl, _, _, _, _, rfl, q2332, q2328, q2330, q2329, q2335, q2333, q2331, ⟨by decide +kernel, by decide +kernel⟩, by decide +kernel⟩
theorem mfp23_1 : xMF 23 51 29 iJ32_next 0 := ⟨kJ32_next, q2343, rfl, _, _, _, _, rfl, q2341, q2338, q2340, q2339, q2344, q2342, q2331, ⟨by decide +kernel, by decide +kernel⟩, by decide +kernel⟩
theorem mfp23_2 : xMF 23 112 24 iX19_holds 1 := ⟨kX19_holds, q2253, rfl, _, _, _, _, rfl, q2251, q2204, q2206, q2205, q2254, q2252, q2250, ⟨by decide +kernel, by decide +kernel⟩, by decide +kernel⟩
theorem mfp23_3 : xMF 23 112 25 iX20_holds 1 := ⟨kX20_holds, q2220, rfl, _, _, _, _, rfl, q2218, q2204, q2206, q2205, q2221, q2219, q2217, ⟨by decide +kernel, by decide +kernel⟩, by decide +kernel⟩
theorem mfp23_4 : xMF 23 112 26 iX21_holds 1 := ⟨kX21_holds, q2228, rfl, _, _, _, _, rfl, q2226, q2204, q2206, q2205, q2229, q2227, q2225, ⟨by decide +kernel, by decide +kernel⟩, by decide +kernel⟩
theorem mfp23_5 : xMF 23 112 27 iX22_holds 1 := ⟨kX22_holds, q2210, rfl, _, _, _, _, rfl, q2208, q2204, q2206, q2205, q2211, q2209, q2207, ⟨by decide +kernel, by decide +kernel⟩, by decide +kernel⟩
theorem mfp23_6 : xMF 23 112 28 iX24_holds 1 := ⟨kX24_holds, q2264, rfl, _, _, _, _, rfl, q2262, q2204, q2206, q2205, q2265, q2263, q2261, ⟨by decide +kernel, by decide +kernel⟩, by decide +kernel⟩
theorem mfo23 : ∀ e ∈ mfT23, xMF 23 e.1 e.2.1 e.2.2.1 e.2.2.2 := List.forall_mem_cons.mpr ⟨mfp23_0, List.forall_mem_cons.mpr ⟨mfp23_1, List.forall_mem_cons.mpr ⟨mfp23_2, List.forall_mem_cons.mpr ⟨mfp23_3, List.forall_mem_cons.mpr ⟨mfp23_4, List.forall_mem_cons.mpr ⟨mfp23_5, List.forall_mem_cons.mpr ⟨mfp23_6, (fun _ h => by cases h)⟩⟩⟩⟩⟩⟩⟩
def mfT24 : List (Nat × Nat × xI × Nat) := [(15, 3, iJ2_size, 0), (25, 3, iJ2_get, 1)]
theorem mfp24_0 : xMF 24 15 3 iJ2_size 0 := ⟨kJ2_size, q337, rfl, _, _, _, _, rfl, q1961, q1999, q1960, q1959, q1963, q1962, q941, ⟨by decide +kernel, by decide +kernel⟩, by decide +kernel⟩
theorem mfp24_1 : xMF 24 25 3 iJ2_get 1 := ⟨kJ2_get, q944, rfl, _, _, _, _, rfl, q942, q2001, q940, q939, q945, q943, q941, ⟨by decide +kernel, by decide +kernel⟩, by decide +kernel⟩
theorem mfo24 : ∀ e ∈ mfT24, xMF 24 e.1 e.2.1 e.2.2.1 e.2.2.2 := List.forall_mem_cons.mpr ⟨mfp24_0, List.forall_mem_cons.mpr ⟨mfp24_1, (fun _ h => by cases h)⟩⟩
def mfT25 : List (Nat × Nat × xI × Nat) := []
theorem mfo25 : ∀ e ∈ mfT25, xMF 25 e.1 e.2.1 e.2.2.1 e.2.2.2 := (fun _ h => by cases h)
def mfT26 : List (Nat × Nat × xI × Nat) := []
theorem mfo26 : ∀ e ∈ mfT26, xMF 26 e.1 e.2.1 e.2.2.1 e.2.2.2 := (fun _ h => by cases h)
def mfT27 : List (Nat × Nat × xI × Nat) := []
theorem mfo27 : ∀ e ∈ mfT27, xMF 27 e.1 e.2.1 e.2.2.1 e.2.2.2 := (fun _ h => by cases h)
def mfT28 : List (Nat × Nat × xI × Nat) := []
theorem mfo28 : ∀ e ∈ mfT28, xMF 28 e.1 e.2.1 e.2.2.1 e.2.2.2 := (fun _ h => by cases h)
def mfT29 : List (Nat × Nat × xI × Nat) := []
theorem mfo29 : ∀ e ∈ mfT29, xMF 29 e.1 e.2.1 e.2.2.1 e.2.2.2 := (fun _ h => by cases h)
def mfT30 : List (Nat × Nat × xI × Nat) := []
theorem mfo30 : ∀ e ∈ mfT30, xMF 30 e.1 e.2.1 e.2.2.1 e.2.2.2 := (fun _ h => by cases h)
def mfT31 : List (Nat × Nat × xI × Nat) := []
theorem mfo31 : ∀ e ∈ mfT31, xMF 31 e.1 e.2.1 e.2.2.1 e.2.2.2 := (fun _ h => by cases h)
def mfT32 : List (Nat × Nat × xI × Nat) := []
theorem mfo32 : ∀ e ∈ mfT32, xMF 32 e.1 e.2.1 e.2.2.1 e.2.2.2 := (fun _ h => by cases h)
def mfT33 : List (Nat × Nat × xI × Nat) := []
theorem mfo33 : ∀ e ∈ mfT33, xMF 33 e.1 e.2.1 e.2.2.1 e.2.2.2 := (fun _ h => by cases h)
def mfT34 : List (Nat × Nat × xI × Nat) := []
theorem mfo34 : ∀ e ∈ mfT34, xMF 34 e.1 e.2.1 e.2.2.1 e.2.2.2 := (fun _ h => by cases h)
def mfT35 : List (Nat × Nat × xI × Nat) := []
theorem mfo35 : ∀ e ∈ mfT35, xMF 35 e.1 e.2.1 e.2.2.1 e.2.2.2 := (fun _ h => by cases h)
def mfT36 : List (Nat × Nat × xI × Nat) := []
theorem mfo36 : ∀ e ∈ mfT36, xMF 36 e.1 e.2.1 e.2.2.1 e.2.2.2 := (fun _ h => by cases h)
def mfT37 : List (Nat × Nat × xI × Nat) := []
theorem mfo37 : ∀ e ∈ mfT37, xMF 37 e.1 e.2.1 e.2.2.1 e.2.2.2 := (fun _ h => by cases h)
def mfT38 : List (Nat × Nat × xI × Nat) := []
theorem mfo38 : ∀ e ∈ mfT38, xMF 38 e.1 e.2.1 e.2.2.1 e.2.2.2 := (fun _ h => by cases h)
def mfT39 : List (Nat × Nat × xI × Nat) := []
theorem mfo39 : ∀ e ∈ mfT39, xMF 39 e.1 e.2.1 e.2.2.1 e.2.2.2 := (fun _ h => by cases h)
def mfT40 : List (Nat × Nat × xI × Nat) := []
theorem mfo40 : ∀ e ∈ mfT40, xMF 40 e.1 e.2.1 e.2.2.1 e.2.2.2 := (fun _ h => by cases h)
def mfT41 : List (Nat × Nat × xI × Nat) := []
theorem mfo41 : ∀ e ∈ mfT41, xMF 41 e.1 e.2.1 e.2.2.1 e.2.2.2 := (fun _ h => by cases h)
def mfT42 : List (Nat × Nat × xI × Nat) := []
theorem mfo42 : ∀ e ∈ mfT42, xMF 42 e.1 e.2.1 e.2.2.1 e.2.2.2 := (fun _ h => by cases h)
def mfT43 : List (Nat × Nat × xI × Nat) := []
theorem mfo43 : ∀ e ∈ mfT43, xMF 43 e.1 e.2.1 e.2.2.1 e.2.2.2 := (fun _ h => by cases h)
def mfT44 : List (Nat × Nat × xI × Nat) := []
theorem mfo44 : ∀ e ∈ mfT44, xMF 44 e.1 e.2.1 e.2.2.1 e.2.2.2 := (fun _ h => by cases h)
def mfT45 : List (Nat × Nat × xI × Nat) := []
theorem mfo45 : ∀ e ∈ mfT45, xMF 45 e.1 e.2.1 e.2.2.1 e.2.2.2 := (fun _ h => by cases h)
def mfT46 : List (Nat × Nat × xI × Nat) := []
theorem mfo46 : ∀ e ∈ mfT46, xMF 46 e.1 e.2.1 e.2.2.1 e.2.2.2 := (fun _ h => by cases h)
def mfT47 : List (Nat × Nat × xI × Nat) := []
theorem mfo47 : ∀ e ∈ mfT47, xMF 47 e.1 e.2.1 e.2.2.1 e.2.2.2 := (fun _ h => by cases h)
def mfT48 : List (Nat × Nat × xI × Nat) := []
theorem mfo48 : ∀ e ∈ mfT48, xMF 48 e.1 e.2.1 e.2.2.1 e.2.2.2 := (fun _ h => by cases h)
def mfT49 : List (Nat × Nat × xI × Nat) := []
theorem mfo49 : ∀ e ∈ mfT49, xMF 49 e.1 e.2.1 e.2.2.1 e.2.2.2 := (fun _ h => by cases h)
def mfT50 : List (Nat × Nat × xI × Nat) := []
theorem mfo50 : ∀ e ∈ mfT50, xMF 50 e.1 e.2.1 e.2.2.1 e.2.2.2 := (fun _ h => by cases h)
def mfT51 : List (Nat × Nat × xI × Nat) := []
theorem mfo51 : ∀ e ∈ mfT51, xMF 51 e.1 e.2.1 e.2.2.1 e.2.2.2 := (fun _ h => by cases h)
def mfT52 : List (Nat × Nat × xI × Nat) := []
theorem mfo52 : ∀ e ∈ mfT52, xMF 52 e.1 e.2.1 e.2.2.1 e.2.2.2 := (fun _ h => by cases h)
def mfT53 : List (Nat × Nat × xI × Nat) := []
theorem mfo53 : ∀ e ∈ mfT53, xMF 53 e.1 e.2.1 e.2.2.1 e.2.2.2 := (fun _ h => by cases h)
def mfT54 : List (Nat × Nat × xI × Nat) := []
theorem mfo54 : ∀ e ∈ mfT54, xMF 54 e.1 e.2.1 e.2.2.1 e.2.2.2 := (fun _ h => by cases h)
def mfT55 : List (Nat × Nat × xI × Nat) := []
theorem mfo55 : ∀ e ∈ mfT55, xMF 55 e.1 e.2.1 e.2.2.1 e.2.2.2 := (fun _ h => by cases h)
def mfT56 : List (Nat × Nat × xI × Nat) := []
theorem mfo56 : ∀ e ∈ mfT56, xMF 56 e.1 e.2.1 e.2.2.1 e.2.2.2 := (fun _ h => by cases h)
def mfT57 : List (Nat × Nat × xI × Nat) := []
theorem mfo57 : ∀ e ∈ mfT57, xMF 57 e.1 e.2.1 e.2.2.1 e.2.2.2 := (fun _ h => by cases h)
def mfT58 : List (Nat × Nat × xI × Nat) := []
theorem mfo58 : ∀ e ∈ mfT58, xMF 58 e.1 e.2.1 e.2.2.1 e.2.2.2 := (fun _ h => by cases h)
def mfT59 : List (Nat × Nat × xI × Nat) := []
theorem mfo59 : ∀ e ∈ mfT59, xMF 59 e.1 e.2.1 e.2.2.1 e.2.2.2 := (fun _ h => by cases h)
def mfT60 : List (Nat × Nat × xI × Nat) := [(42, 3, iJ2_toArray, 0)]
theorem mfp60_0 : xMF 60 42 3 iJ2_toArray 0 := ⟨kJ2_toArray, q2701, rfl, _, _, _, _, rfl, q2699, q2695, q2697, q2696, q2702, q2700, q2698, ⟨by decide +kernel, by decide +kernel⟩, by decide +kernel⟩
theorem mfo60 : ∀ e ∈ mfT60, xMF 60 e.1 e.2.1 e.2.2.1 e.2.2.2 := List.forall_mem_cons.mpr ⟨mfp60_0, (fun _ h => by cases h)⟩
def mfT61 : List (Nat × Nat × xI × Nat) := []
theorem mfo61 : ∀ e ∈ mfT61, xMF 61 e.1 e.2.1 e.2.2.1 e.2.2.2 := (fun _ h => by cases h)
def mfT62 : List (Nat × Nat × xI × Nat) := []
theorem mfo62 : ∀ e ∈ mfT62, xMF 62 e.1 e.2.1 e.2.2.1 e.2.2.2 := (fun _ h => by cases h)
def mfT63 : List (Nat × Nat × xI × Nat) := [(30, 7, iJ10_compareTo, 1), (30, 8, iJ11_compareTo, 1), (30, 15, iJ19_compareTo, 1), (30, 36, iJ8_compareTo, 1), (30, 37, iJ8_compareTo, 1), (30, 38, iJ8_compareTo, 1), (30, 39, iJ8_compareTo, 1), (30, 40, iJ8_compareTo, 1), (30, 41, iJ8_compareTo, 1), (30, 42, iJ8_compareTo, 1), (30, 43, iJ8_compareTo, 1), (30, 44, iJ8_compareTo, 1), (30, 45, iJ8_compareTo, 1), (30, 46, iJ8_compareTo, 1), (30, 47, iJ8_compareTo, 1), (30, 48, iJ8_compareTo, 1), (30, 49, iJ8_compareTo, 1)]
theorem mfp63_0 : xMF 63 30 7 iJ10_compareTo 1 := ⟨kJ10_compareTo, q1467, rfl, _, _, _, _, rfl, q1465, q1221, q1223, q1222, q1468, q1466, q1464, ⟨by decide +kernel, by decide +kernel⟩, by decide +kernel⟩
theorem mfp63_1 : xMF 63 30 8 iJ11_compareTo 1 := ⟨kJ11_compareTo, q1323, rfl, _, _, _, _, rfl, q1321, q1221, q1223, q1222, q1324, q1322, q1320, ⟨by decide +kernel, by decide +kernel⟩, by decide +kernel⟩
theorem mfp63_2 : xMF 63 30 15 iJ19_compareTo 1 := ⟨kJ19_compareTo, q1310, rfl, _, _, _, _, rfl, q1308, q1221, q1223, q1222, q1311, q1309, q1307, ⟨by decide +kernel, by decide +kernel⟩, by decide +kernel⟩
theorem mfp63_3 : xMF 63 30 36 iJ8_compareTo 1 := ⟨kJ8_compareTo, q1227, rfl, _, _, _, _, rfl, q1225, q1221, q1223, q1222, q1228, q1226, q1224, ⟨by decide +kernel, by decide +kernel⟩, by decide +kernel⟩
theorem mfp63_4 : xMF 63 30 37 iJ8_compareTo 1 := ⟨kJ8_compareTo, q1227, rfl, _, _, _, _, rfl, q1269, q1221, q1223, q1222, q1228, q1270, q1268, ⟨by decide +kernel, by decide +kernel⟩, by decide +kernel⟩
theorem mfp63_5 : xMF 63 30 38 iJ8_compareTo 1 := ⟨kJ8_compareTo, q1227, rfl, _, _, _, _, rfl, q1272, q1221, q1223, q1222, q1228, q1273, q1271, ⟨by decide +kernel, by decide +kernel⟩, by decide +kernel⟩
theorem mfp63_6 : xMF 63 30 39 iJ8_compareTo 1 := ⟨kJ8_compareTo, q1227, rfl, _, _, _, _, rfl, q1278, q1221, q1223, q1222, q1228, q1279, q1277, ⟨by decide +kernel, by decide +kernel⟩, by decide +kernel⟩
theorem mfp63_7 : xMF 63 30 40 iJ8_compareTo 1 := ⟨kJ8_compareTo, q1227, rfl, _, _, _, _, rfl, q1281, q1221, q1223, q1222, q1228, q1282, q1280, ⟨by decide +kernel, by decide +kernel⟩, by decide +kernel⟩
theorem mfp63_8 : xMF 63 30 41 iJ8_compareTo 1 := ⟨kJ8_compareTo, q1227, rfl, _, _, _, _, rfl, q1284, q1221, q1223, q1222, q1228, q1285, q1283, ⟨by decide +kernel, by decide +kernel⟩, by decide +kernel⟩
theorem mfp63_9 : xMF 63 30 42 iJ8_compareTo 1 := ⟨kJ8_compareTo, q1227, rfl, _, _, _, _, rfl, q1287, q1221, q1223, q1222, q1228, q1288, q1286, ⟨by decide +kernel, by decide +kernel⟩, by decide +kernel⟩
theorem mfp63_10 : xMF 63 30 43 iJ8_compareTo 1 := ⟨kJ8_compareTo, q1227, rfl, _, _, _, _, rfl, q1290, q1221, q1223, q1222, q1228, q1291, q1289, ⟨by decide +kernel, by decide +kernel⟩, by decide +kernel⟩
theorem mfp63_11 : xMF 63 30 44 iJ8_compareTo 1 := ⟨kJ8_compareTo, q1227, rfl, _, _, _, _, rfl, q1293, q1221, q1223, q1222, q1228, q1294, q1292, ⟨by decide +kernel, by decide +kernel⟩, by decide +kernel⟩
theorem mfp63_12 : xMF 63 30 45 iJ8_compareTo 1 := ⟨kJ8_compareTo, q1227, rfl, _, _, _, _, rfl, q1299, q1221, q1223, q1222, q1228, q1300, q1298, ⟨by decide +kernel, by decide +kernel⟩, by decide +kernel⟩
theorem mfp63_13 : xMF 63 30 46 iJ8_compareTo 1 := ⟨kJ8_compareTo, q1227, rfl, _, _, _, _, rfl, q1302, q1221, q1223, q1222, q1228, q1303, q1301, ⟨by decide +kernel, by decide +kernel⟩, by decide +kernel⟩
theorem mfp63_14 : xMF 63 30 47 iJ8_compareTo 1 := ⟨kJ8_compareTo, q1227, rfl, _, _, _, _, rfl, q1305, q1221, q1223, q1222, q1228, q1306, q1304, ⟨by decide +kernel, by decide +kernel⟩, by decide +kernel⟩
theorem mfp63_15 : xMF 63 30 48 iJ8_compareTo 1 := ⟨kJ8_compareTo, q1227, rfl, _, _, _, _, rfl, q1275, q1221, q1223, q1222, q1228, q1276, q1274, ⟨by decide +kernel, by decide +kernel⟩, by decide +kernel⟩
theorem mfp63_16 : xMF 63 30 49 iJ8_compareTo 1 := ⟨kJ8_compareTo, q1227, rfl, _, _, _, _, rfl, q1296, q1221, q1223, q1222, q1228, q1297, q1295, ⟨by decide +kernel, by decide +kernel⟩, by decide +kernel⟩
theorem mfo63 : ∀ e ∈ mfT63, xMF 63 e.1 e.2.1 e.2.2.1 e.2.2.2 := List.forall_mem_cons.mpr ⟨mfp63_0, List.forall_mem_cons.mpr ⟨mfp63_1, List.forall_mem_cons.mpr ⟨mfp63_2, List.forall_mem_cons.mpr ⟨mfp63_3, List.forall_mem_cons.mpr ⟨mfp63_4, List.forall_mem_cons.mpr ⟨mfp63_5, List.forall_mem_cons.mpr ⟨mfp63_6, List.forall_mem_cons.mpr ⟨mfp63_7, List.forall_mem_cons.mpr ⟨mfp63_8, List.forall_mem_cons.mpr ⟨mfp63_9, List.forall_mem_cons.mpr ⟨mfp63_10, List.forall_mem_cons.mpr ⟨mfp63_11, List.forall_mem_cons.mpr ⟨mfp63_12, List.forall_mem_cons.mpr ⟨mfp63_13, List.forall_mem_cons.mpr ⟨mfp63_14, List.forall_mem_cons.mpr ⟨mfp63_15, List.forall_mem_cons.mpr ⟨mfp63_16, (fun _ h => by cases h)⟩⟩⟩⟩⟩⟩⟩⟩⟩⟩⟩⟩⟩⟩⟩⟩⟩
def mfT64 : List (Nat × Nat × xI × Nat) := []
theorem mfo64 : ∀ e ∈ mfT64, xMF 64 e.1 e.2.1 e.2.2.1 e.2.2.2 := (fun _ h => by cases h)
def mfT65 : List (Nat × Nat × xI × Nat) := []
theorem mfo65 : ∀ e ∈ mfT65, xMF 65 e.1 e.2.1 e.2.2.1 e.2.2.2 := (fun _ h => by cases h)
def mfT66 : List (Nat × Nat × xI × Nat) := []
theorem mfo66 : ∀ e ∈ mfT66, xMF 66 e.1 e.2.1 e.2.2.1 e.2.2.2 := (fun _ h => by cases h)
def mfT67 : List (Nat × Nat × xI × Nat) := []
theorem mfo67 : ∀ e ∈ mfT67, xMF 67 e.1 e.2.1 e.2.2.1 e.2.2.2 := (fun _ h => by cases h)
def mfT68 : List (Nat × Nat × xI × Nat) := []
theorem mfo68 : ∀ e ∈ mfT68, xMF 68 e.1 e.2.1 e.2.2.1 e.2.2.2 := (fun _ h => by cases h)
def mfT69 : List (Nat × Nat × xI × Nat) := []
theorem mfo69 : ∀ e ∈ mfT69, xMF 69 e.1 e.2.1 e.2.2.1 e.2.2.2 := (fun _ h => by cases h)
def mfT70 : List (Nat × Nat × xI × Nat) := []
theorem mfo70 : ∀ e ∈ mfT70, xMF 70 e.1 e.2.1 e.2.2.1 e.2.2.2 := (fun _ h => by cases h)
def mfT71 : List (Nat × Nat × xI × Nat) := []
theorem mfo71 : ∀ e ∈ mfT71, xMF 71 e.1 e.2.1 e.2.2.1 e.2.2.2 := (fun _ h => by cases h)
def mfL (oc : Nat) : List (Nat × Nat × xI × Nat) := match oc with
  | 0 => mfT0
  | 1 => mfT1
  | 2 => mfT2
  | 3 => mfT3
  | 4 => mfT4
  | 5 => mfT5
  | 6 => mfT6
  | 7 => mfT7
  | 8 => mfT8
  | 9 => mfT9
  | 10 => mfT10
  | 11 => mfT11
  | 12 => mfT12
  | 13 => mfT13
  | 14 => mfT14
  | 15 => mfT15
  | 16 => mfT16
  | 17 => mfT17
  | 18 => mfT18
  | 19 => mfT19
  | 20 => mfT20
  | 21 => mfT21
  | 22 => mfT22
  | 23 => mfT23
  | 24 => mfT24
  | 25 => mfT25
  | 26 => mfT26
  | 27 => mfT27
  | 28 => mfT28
  | 29 => mfT29
  | 30 => mfT30
  | 31 => mfT31
  | 32 => mfT32
  | 33 => mfT33
  | 34 => mfT34
  | 35 => mfT35
  | 36 => mfT36
  | 37 => mfT37
  | 38 => mfT38
  | 39 => mfT39
  | 40 => mfT40
  | 41 => mfT41
  | 42 => mfT42
  | 43 => mfT43
  | 44 => mfT44
  | 45 => mfT45
  | 46 => mfT46
  | 47 => mfT47
  | 48 => mfT48
  | 49 => mfT49
  | 50 => mfT50
  | 51 => mfT51
  | 52 => mfT52
  | 53 => mfT53
  | 54 => mfT54
  | 55 => mfT55
  | 56 => mfT56
  | 57 => mfT57
  | 58 => mfT58
  | 59 => mfT59
  | 60 => mfT60
  | 61 => mfT61
  | 62 => mfT62
  | 63 => mfT63
  | 64 => mfT64
  | 65 => mfT65
  | 66 => mfT66
  | 67 => mfT67
  | 68 => mfT68
  | 69 => mfT69
  | 70 => mfT70
  | 71 => mfT71
  | _ => []
theorem mfL_ok : ∀ oc, ∀ e ∈ mfL oc, xMF oc e.1 e.2.1 e.2.2.1 e.2.2.2 := by
  intro oc
  unfold mfL
  split
  · exact mfo0
  · exact mfo1
  · exact mfo2
  · exact mfo3
  · exact mfo4
  · exact mfo5
  · exact mfo6
  · exact mfo7
  · exact mfo8
  · exact mfo9
  · exact mfo10
  · exact mfo11
  · exact mfo12
  · exact mfo13
  · exact mfo14
  · exact mfo15
  · exact mfo16
  · exact mfo17
  · exact mfo18
  · exact mfo19
  · exact mfo20
  · exact mfo21
  · exact mfo22
  · exact mfo23
  · exact mfo24
  · exact mfo25
  · exact mfo26
  · exact mfo27
  · exact mfo28
  · exact mfo29
  · exact mfo30
  · exact mfo31
  · exact mfo32
  · exact mfo33
  · exact mfo34
  · exact mfo35
  · exact mfo36
  · exact mfo37
  · exact mfo38
  · exact mfo39
  · exact mfo40
  · exact mfo41
  · exact mfo42
  · exact mfo43
  · exact mfo44
  · exact mfo45
  · exact mfo46
  · exact mfo47
  · exact mfo48
  · exact mfo49
  · exact mfo50
  · exact mfo51
  · exact mfo52
  · exact mfo53
  · exact mfo54
  · exact mfo55
  · exact mfo56
  · exact mfo57
  · exact mfo58
  · exact mfo59
  · exact mfo60
  · exact mfo61
  · exact mfo62
  · exact mfo63
  · exact mfo64
  · exact mfo65
  · exact mfo66
  · exact mfo67
  · exact mfo68
  · exact mfo69
  · exact mfo70
  · exact mfo71
  · intro e h; cases h
def ms (oc idx : Nat) : Option (xI × Nat) := ((msL oc).find? (fun e => e.1 == idx)).map (fun e => e.2)
theorem ms_ok {oc idx : Nat} {q : xI × Nat} (h : ms oc idx = some q) : xMS oc idx q.1 q.2 := by
  unfold ms at h
  obtain ⟨e, he, rfl⟩ := Option.map_eq_some_iff.mp h
  have h1 := List.find?_some he
  have h2 := List.mem_of_find?_eq_some he
  simp only [beq_iff_eq] at h1
  have := msL_ok oc e h2
  rw [h1] at this
  exact this
def mp (oc idx : Nat) : Option (xI × Nat) := ((mpL oc).find? (fun e => e.1 == idx)).map (fun e => e.2)
theorem mp_ok {oc idx : Nat} {q : xI × Nat} (h : mp oc idx = some q) : xMP oc idx q.1 q.2 := by
  unfold mp at h
  obtain ⟨e, he, rfl⟩ := Option.map_eq_some_iff.mp h
  have h1 := List.find?_some he
  have h2 := List.mem_of_find?_eq_some he
  simp only [beq_iff_eq] at h1
  have := mpL_ok oc e h2
  rw [h1] at this
  exact this
def mv (oc idx ci : Nat) : Option (xI × Nat) := ((mvL oc).find? (fun e => e.1 == idx && e.2.1 == ci)).map (fun e => e.2.2)
theorem mv_ok {oc idx ci : Nat} {q : xI × Nat} (h : mv oc idx ci = some q) : xMV oc idx ci q.1 q.2 := by
  unfold mv at h
  obtain ⟨e, he, rfl⟩ := Option.map_eq_some_iff.mp h
  have h1 := List.find?_some he
  have h2 := List.mem_of_find?_eq_some he
  simp only [Bool.and_eq_true, beq_iff_eq] at h1
  have := mvL_ok oc e h2
  rw [h1.1, h1.2] at this
  exact this
def mf (oc idx ci : Nat) : Option (xI × Nat) := ((mfL oc).find? (fun e => e.1 == idx && e.2.1 == ci)).map (fun e => e.2.2)
theorem mf_ok {oc idx ci : Nat} {q : xI × Nat} (h : mf oc idx ci = some q) : xMF oc idx ci q.1 q.2 := by
  unfold mf at h
  obtain ⟨e, he, rfl⟩ := Option.map_eq_some_iff.mp h
  have h1 := List.find?_some he
  have h2 := List.mem_of_find?_eq_some he
  simp only [Bool.and_eq_true, beq_iff_eq] at h1
  have := mfL_ok oc e h2
  rw [h1.1, h1.2] at this
  exact this
def pnT0 : List (Nat × Nat) := [(3, 0), (9, 0), (12, 0), (13, 1), (19, 0), (25, 2), (29, 1), (33, 2), (39, 2), (46, 2), (49, 2), (51, 2), (54, 0), (59, 0), (70, 0), (80, 1), (83, 1), (87, 3), (95, 1), (98, 0), (102, 1), (105, 0), (124, 0), (137, 0), (140, 0), (143, 0), (152, 1), (156, 0), (160, 0), (166, 0), (175, 2), (178, 0), (181, 1), (184, 1), (189, 1), (193, 0), (196, 0), (199, 2), (202, 2), (206, 2), (209, 0), (212, 0), (215, 0), (218, 2), (221, 0), (224, 3), (228, 0), (232, 1), (236, 3), (239, 1), (243, 0), (246, 0), (249, 1), (253, 1), (256, 1), (263, 0), (278, 1), (284, 2), (287, 1), (295, 1), (298, 0)]
def pnT1 : List (Nat × Nat) := [(1, 0), (17, 2)]
def pnT2 : List (Nat × Nat) := [(1, 0), (20, 1), (26, 2), (32, 1), (38, 0)]
def pnT3 : List (Nat × Nat) := [(1, 0), (22, 1), (30, 1)]
def pnT4 : List (Nat × Nat) := [(13, 0), (21, 1), (41, 3)]
def pnT5 : List (Nat × Nat) := [(29, 1), (40, 3)]
def pnT6 : List (Nat × Nat) := [(26, 1), (40, 3)]
def pnT7 : List (Nat × Nat) := [(1, 0), (13, 1)]
def pnT8 : List (Nat × Nat) := [(1, 0)]
def pnT9 : List (Nat × Nat) := [(1, 0), (22, 1), (37, 2)]
def pnT10 : List (Nat × Nat) := [(1, 0), (20, 1), (24, 2)]
def pnT11 : List (Nat × Nat) := [(1, 0)]
def pnT12 : List (Nat × Nat) := [(3, 0), (11, 0), (20, 0), (36, 1), (46, 0), (51, 2), (54, 1), (58, 1), (61, 0), (72, 1), (76, 0), (88, 1), (95, 1), (99, 3), (103, 0), (107, 1), (113, 2), (117, 1), (120, 1), (126, 1), (129, 0), (135, 0), (143, 0), (147, 0), (149, 1), (155, 2), (160, 0), (168, 1), (174, 3), (177, 2), (183, 0), (184, 1), (188, 0), (194, 1), (199, 2), (202, 1), (205, 1), (209, 0), (210, 1), (213, 1), (239, 0), (243, 1), (249, 0), (253, 0), (258, 6), (263, 1), (269, 0), (274, 0), (281, 1), (286, 1), (293, 1), (300, 2), (306, 1), (312, 1), (318, 3), (321, 0), (339, 3), (342, 0), (366, 1), (373, 2), (388, 1), (392, 2), (397, 1)]
def pnT13 : List (Nat × Nat) := [(3, 0), (11, 0), (26, 1), (38, 1), (42, 1), (46, 1), (50, 1), (68, 0), (77, 3), (80, 0), (82, 1), (85, 1), (88, 2), (91, 1), (106, 1)]
def pnT14 : List (Nat × Nat) := [(1, 0), (9, 0), (20, 0), (24, 1), (30, 1)]
def pnT15 : List (Nat × Nat) := []
def pnT16 : List (Nat × Nat) := []
def pnT17 : List (Nat × Nat) := []
def pnT18 : List (Nat × Nat) := []
def pnT19 : List (Nat × Nat) := [(7, 2)]
def pnT20 : List (Nat × Nat) := [(7, 2)]
def pnT21 : List (Nat × Nat) := [(1, 0)]
def pnT22 : List (Nat × Nat) := [(1, 0)]
def pnT23 : List (Nat × Nat) := [(3, 0), (20, 0), (34, 1), (38, 0), (41, 0), (45, 0), (51, 0), (60, 1), (66, 1), (70, 2), (73, 1), (77, 0), (81, 1), (89, 5), (95, 0), (99, 1), (103, 1), (112, 1), (122, 2), (128, 1), (131, 0), (134, 1), (140, 1), (144, 2), (148, 1)]
def pnT24 : List (Nat × Nat) := [(9, 0), (15, 0), (25, 1), (31, 0), (42, 1), (46, 1), (49, 1), (52, 6), (56, 3), (59, 1), (62, 3), (66, 3), (70, 3), (73, 3), (76, 1), (81, 2), (85, 3), (88, 2), (91, 2), (97, 0), (98, 0), (102, 1), (106, 1), (110, 1), (113, 2), (116, 0)]
def pnT25 : List (Nat × Nat) := [(3, 0), (21, 0), (22, 1), (26, 1), (30, 0)]
def pnT26 : List (Nat × Nat) := [(3, 0)]
def pnT27 : List (Nat × Nat) := [(1, 0)]
def pnT28 : List (Nat × Nat) := [(1, 0), (29, 1), (35, 0), (39, 1)]
def pnT29 : List (Nat × Nat) := [(1, 0), (13, 1)]
def pnT30 : List (Nat × Nat) := []
def pnT31 : List (Nat × Nat) := []
def pnT32 : List (Nat × Nat) := [(13, 1), (21, 0), (25, 1)]
def pnT33 : List (Nat × Nat) := [(7, 5), (15, 1), (21, 1), (26, 2), (30, 2), (33, 2), (36, 2), (39, 2), (42, 2), (45, 2), (48, 2), (51, 2), (54, 3), (58, 1), (62, 0), (66, 2), (69, 1), (72, 1), (75, 0), (78, 0), (79, 7), (84, 5), (85, 0), (88, 3), (91, 1), (92, 0), (95, 0), (96, 0), (99, 0), (100, 3), (102, 1), (103, 4), (106, 2), (107, 4), (109, 2), (110, 4), (112, 2), (113, 4), (115, 2), (116, 4), (118, 2), (119, 4), (121, 2), (122, 4), (124, 2), (125, 4), (127, 2), (128, 4), (130, 2), (131, 5), (134, 3), (135, 3), (137, 1), (138, 0), (141, 0), (142, 2), (145, 0), (146, 4), (148, 2), (149, 3), (151, 1), (152, 3), (154, 1), (155, 0), (159, 0), (160, 0), (164, 0)]
def pnT34 : List (Nat × Nat) := [(1, 0), (19, 0), (26, 0), (57, 2), (63, 2), (69, 3), (91, 4), (95, 2), (99, 1), (103, 1), (106, 3), (110, 2), (114, 4), (118, 2), (120, 2), (122, 3), (125, 3), (137, 0), (141, 1), (145, 0), (148, 0), (151, 0), (155, 2), (158, 0), (161, 0), (164, 0), (167, 1), (170, 2), (176, 1), (179, 1), (182, 1), (186, 1), (195, 1), (199, 2), (205, 2), (208, 2), (211, 2), (214, 1), (218, 0), (221, 1), (227, 1), (230, 1), (233, 1), (239, 2), (244, 1), (253, 0), (256, 1), (263, 3), (273, 2), (277, 1), (281, 1), (284, 1), (287, 1), (290, 1), (293, 1), (296, 1), (299, 1), (302, 2), (306, 2), (309, 1), (312, 1), (317, 0), (318, 1), (322, 0), (326, 1), (330, 3), (334, 2), (341, 3), (347, 2), (353, 2), (357, 2), (360, 2), (363, 2), (367, 1), (371, 1), (374, 3), (378, 1), (381, 2), (388, 1), (391, 0), (394, 0), (397, 0), (400, 1), (403, 1), (406, 1), (409, 1), (412, 2), (415, 2), (418, 1), (423, 1), (426, 1), (429, 1), (432, 2), (435, 2), (438, 3), (441, 1), (444, 1), (447, 2), (450, 1)]
def pnT35 : List (Nat × Nat) := [(3, 0), (18, 5)]
def pnT36 : List (Nat × Nat) := [(3, 0)]
def pnT37 : List (Nat × Nat) := [(3, 0), (26, 1), (32, 0), (40, 0), (83, 0), (87, 4), (93, 4), (94, 4), (97, 4), (100, 1), (104, 1), (108, 2), (114, 3), (125, 5), (191, 1), (195, 0), (197, 3), (204, 0), (208, 2), (226, 6), (245, 1), (248, 3), (251, 4), (397, 1), (399, 3)]
def pnT38 : List (Nat × Nat) := [(7, 1)]
def pnT39 : List (Nat × Nat) := []
def pnT40 : List (Nat × Nat) := [(20, 1), (29, 0), (33, 0), (101, 1)]
def pnT41 : List (Nat × Nat) := [(1, 0), (7, 1)]
def pnT42 : List (Nat × Nat) := [(1, 0), (7, 1)]
def pnT43 : List (Nat × Nat) := [(1, 0)]
def pnT44 : List (Nat × Nat) := [(1, 0), (7, 1)]
def pnT45 : List (Nat × Nat) := [(199, 1), (202, 0), (208, 1), (211, 0), (259, 2), (284, 1)]
def pnT46 : List (Nat × Nat) := [(308, 1), (311, 1)]
def pnT47 : List (Nat × Nat) := []
def pnT48 : List (Nat × Nat) := [(1, 0)]
def pnT49 : List (Nat × Nat) := []
def pnT50 : List (Nat × Nat) := [(1, 0), (7, 1)]
def pnT51 : List (Nat × Nat) := [(1, 0), (47, 2), (54, 3), (106, 5), (212, 5), (335, 0), (489, 2), (492, 0), (495, 2), (498, 2), (505, 0), (541, 2), (549, 0), (552, 0), (586, 2), (590, 2), (591, 2), (594, 2), (628, 1), (632, 1), (633, 2), (637, 4), (640, 4), (1047, 0), (1051, 3), (1059, 3), (1062, 4), (1065, 4), (1084, 1)]
def pnT52 : List (Nat × Nat) := [(1, 1), (13, 1), (29, 1), (50, 1), (53, 1), (137, 1), (343, 0), (346, 1)]
def pnT53 : List (Nat × Nat) := [(9, 2), (34, 4), (38, 2), (44, 3), (50, 2), (54, 1), (58, 1), (59, 4), (62, 2), (65, 2), (84, 5), (88, 1), (92, 2), (95, 4), (240, 5)]
def pnT54 : List (Nat × Nat) := [(11, 1), (48, 1), (67, 2), (71, 2), (96, 3), (111, 3), (123, 5), (126, 3), (157, 1), (161, 1), (164, 1), (173, 3), (176, 4), (180, 2), (183, 2), (189, 2), (193, 4), (220, 5), (224, 2), (228, 4), (232, 4), (241, 3), (244, 4), (393, 3), (414, 2), (417, 2), (419, 3)]
def pnT55 : List (Nat × Nat) := [(185, 2)]
def pnT56 : List (Nat × Nat) := [(1, 0), (27, 0), (202, 1)]
def pnT57 : List (Nat × Nat) := [(1, 0)]
def pnT58 : List (Nat × Nat) := [(1, 0)]
def pnT59 : List (Nat × Nat) := [(1, 0)]
def pnT60 : List (Nat × Nat) := [(1, 0), (42, 0), (66, 2), (69, 1), (73, 3), (79, 2), (85, 1), (89, 3), (93, 1), (112, 5), (118, 2), (123, 1), (129, 0), (131, 3), (144, 2), (269, 1)]
def pnT61 : List (Nat × Nat) := [(7, 0), (31, 0)]
def pnT62 : List (Nat × Nat) := [(47, 0), (50, 1), (54, 1), (61, 0), (65, 1), (86, 0), (150, 5), (300, 3), (304, 2), (310, 0), (339, 3), (343, 2)]
def pnT63 : List (Nat × Nat) := [(1, 0), (9, 0), (30, 1), (43, 0), (117, 0), (149, 1), (152, 5), (158, 1), (173, 1), (182, 2), (186, 4), (190, 5), (194, 2), (198, 1), (205, 1), (211, 4), (215, 2), (224, 1), (375, 4), (378, 4)]
def pnT64 : List (Nat × Nat) := [(1, 0)]
def pnT65 : List (Nat × Nat) := [(3, 4), (49, 1), (55, 1), (59, 3), (63, 3), (67, 0), (100, 2), (104, 2), (108, 2), (115, 4), (119, 1), (126, 1), (130, 2), (133, 2)]
def pnT66 : List (Nat × Nat) := [(1, 4)]
def pnT67 : List (Nat × Nat) := [(105, 3)]
def pnT68 : List (Nat × Nat) := [(7, 0), (17, 1), (23, 1)]
def pnT69 : List (Nat × Nat) := [(17, 2), (27, 2), (39, 2), (47, 2), (698, 2), (704, 4), (709, 8), (719, 2), (723, 4), (781, 1), (784, 2), (788, 1), (791, 1), (792, 1), (796, 1)]
def pnT70 : List (Nat × Nat) := [(11, 1), (30, 2), (40, 1), (49, 1), (54, 2), (58, 1), (62, 4), (66, 4), (71, 4), (75, 4), (79, 4), (84, 4), (91, 0), (94, 1), (98, 1), (101, 0), (105, 1), (110, 2), (122, 6), (194, 2), (201, 2)]
def pnT71 : List (Nat × Nat) := []
def pnL (oc : Nat) : List (Nat × Nat) := match oc with
  | 0 => pnT0
  | 1 => pnT1
  | 2 => pnT2
  | 3 => pnT3
  | 4 => pnT4
  | 5 => pnT5
  | 6 => pnT6
  | 7 => pnT7
  | 8 => pnT8
  | 9 => pnT9
  | 10 => pnT10
  | 11 => pnT11
  | 12 => pnT12
  | 13 => pnT13
  | 14 => pnT14
  | 15 => pnT15
  | 16 => pnT16
  | 17 => pnT17
  | 18 => pnT18
  | 19 => pnT19
  | 20 => pnT20
  | 21 => pnT21
  | 22 => pnT22
  | 23 => pnT23
  | 24 => pnT24
  | 25 => pnT25
  | 26 => pnT26
  | 27 => pnT27
  | 28 => pnT28
  | 29 => pnT29
  | 30 => pnT30
  | 31 => pnT31
  | 32 => pnT32
  | 33 => pnT33
  | 34 => pnT34
  | 35 => pnT35
  | 36 => pnT36
  | 37 => pnT37
  | 38 => pnT38
  | 39 => pnT39
  | 40 => pnT40
  | 41 => pnT41
  | 42 => pnT42
  | 43 => pnT43
  | 44 => pnT44
  | 45 => pnT45
  | 46 => pnT46
  | 47 => pnT47
  | 48 => pnT48
  | 49 => pnT49
  | 50 => pnT50
  | 51 => pnT51
  | 52 => pnT52
  | 53 => pnT53
  | 54 => pnT54
  | 55 => pnT55
  | 56 => pnT56
  | 57 => pnT57
  | 58 => pnT58
  | 59 => pnT59
  | 60 => pnT60
  | 61 => pnT61
  | 62 => pnT62
  | 63 => pnT63
  | 64 => pnT64
  | 65 => pnT65
  | 66 => pnT66
  | 67 => pnT67
  | 68 => pnT68
  | 69 => pnT69
  | 70 => pnT70
  | 71 => pnT71
  | _ => []
def pn (oc idx : Nat) : Nat := ((pnL oc).find? (fun e => e.1 == idx)).elim 0 (fun e => e.2)
def dfT (ci : Nat) : List Value := match ci with
  | 0 => [.null, .int 0, .null, .null]
  | 1 => [.null, .int 0]
  | 2 => [.null, .null, .null, .null, .null, .null, .int 0]
  | 3 => [.int 0, .null, .int 0]
  | 4 => [.null, .int 0, .int 0, .int 0, .null, .null, .null]
  | 5 => [.null, .null]
  | 6 => [.null, .null, .int 0]
  | 7 => [.null, .int 0, .int 0, .int 0]
  | 8 => [.null, .int 0, .int 0, .int 0]
  | 9 => [.null, .null, .null, .null, .null, .int 0]
  | 10 => [.null, .null, .null, .null, .null]
  | 11 => [.null, .null, .null, .null, .int 0, .int 0, .int 0, .float 0]
  | 12 => [.null, .null, .null, .null, .null, .int 0, .int 0, .int 0]
  | 13 => [.int 0]
  | 14 => [.null]
  | 15 => [.int 0]
  | 16 => [.int 0, .int 0]
  | 17 => [.null, .int 0]
  | 18 => [.null]
  | 19 => [.null, .null, .null]
  | 20 => [.null, .null]
  | 21 => [.int 0, .null, .null, .null]
  | 22 => [.null, .null, .int 0, .null, .null, .null, .null, .null, .null, .null, .int 0]
  | 23 => [.null, .int 0, .int 0, .null, .null, .null]
  | 24 => [.int 0, .null]
  | 25 => [.null]
  | 26 => [.int 0, .int 0]
  | 27 => [.null, .null, .null]
  | 28 => []
  | 29 => [.int 0, .int 0, .int 0, .null]
  | 30 => [.null, .null, .null, .null, .null, .int 0]
  | 31 => [.null, .null, .null, .null, .null, .int 0]
  | 32 => [.null, .null, .null, .null, .int 0, .null]
  | 33 => [.int 0, .null, .int 0, .int 0, .int 0, .int 0, .null, .null, .null, .null, .int 0, .null, .int 0, .int 0, .null, .null, .int 0, .null, .int 0]
  | 34 => [.null, .null, .null, .null, .int 0, .null, .int 0, .null, .null, .null, .int 0, .null, .int 0]
  | 35 => [.null, .null]
  | _ => []
def xNw (oc idx ci : Nat) : Prop := ci < 36 ∧ ∃ (C : String) (T : u_T) (N : Nat), CL[ci]? = some (C, T, N) ∧ Cond.classLink (ocN oc) idx C ∈ lw_all ∧ Cond.instantiable C N ∈ lw_all ∧ Cond.initialized C ∈ lw_all ∧ (dfT ci).length = N ∧ (∀ k, k < N → ∃ ty, parseFieldDescriptor (T k).2.2.1 = some ty ∧ vp_V (dfT ci) k = defaultValue ty)
theorem dfo_0 : ∀ k, k < 4 → ∃ ty, parseFieldDescriptor (TX1 k).2.2.1 = some ty ∧ vp_V (dfT 0) k = defaultValue ty := by
  intro k h
  match k, h with
  | 0, _ => exact ⟨_, tyX1_ok 0 (by decide), rfl⟩
  | 1, _ => exact ⟨_, tyX1_ok 1 (by decide), rfl⟩
  | 2, _ => exact ⟨_, tyX1_ok 2 (by decide), rfl⟩
  | 3, _ => exact ⟨_, tyX1_ok 3 (by decide), rfl⟩
  | n + 4, h => exact absurd h (by omega)
theorem dfo_1 : ∀ k, k < 2 → ∃ ty, parseFieldDescriptor (TX2 k).2.2.1 = some ty ∧ vp_V (dfT 1) k = defaultValue ty := by
  intro k h
  match k, h with
  | 0, _ => exact ⟨_, tyX2_ok 0 (by decide), rfl⟩
  | 1, _ => exact ⟨_, tyX2_ok 1 (by decide), rfl⟩
  | n + 2, h => exact absurd h (by omega)
theorem dfo_2 : ∀ k, k < 7 → ∃ ty, parseFieldDescriptor (TX3 k).2.2.1 = some ty ∧ vp_V (dfT 2) k = defaultValue ty := by
  intro k h
  match k, h with
  | 0, _ => exact ⟨_, tyX3_ok 0 (by decide), rfl⟩
  | 1, _ => exact ⟨_, tyX3_ok 1 (by decide), rfl⟩
  | 2, _ => exact ⟨_, tyX3_ok 2 (by decide), rfl⟩
  | 3, _ => exact ⟨_, tyX3_ok 3 (by decide), rfl⟩
  | 4, _ => exact ⟨_, tyX3_ok 4 (by decide), rfl⟩
  | 5, _ => exact ⟨_, tyX3_ok 5 (by decide), rfl⟩
  | 6, _ => exact ⟨_, tyX3_ok 6 (by decide), rfl⟩
  | n + 7, h => exact absurd h (by omega)
theorem dfo_3 : ∀ k, k < 3 → ∃ ty, parseFieldDescriptor (TJ2 k).2.2.1 = some ty ∧ vp_V (dfT 3) k = defaultValue ty := by
  intro k h
  match k, h with
  | 0, _ => exact ⟨_, tyJ2_ok 0 (by decide), rfl⟩
  | 1, _ => exact ⟨_, tyJ2_ok 1 (by decide), rfl⟩
  | 2, _ => exact ⟨_, tyJ2_ok 2 (by decide), rfl⟩
  | n + 3, h => exact absurd h (by omega)
theorem dfo_4 : ∀ k, k < 7 → ∃ ty, parseFieldDescriptor (TX7 k).2.2.1 = some ty ∧ vp_V (dfT 4) k = defaultValue ty := by
  intro k h
  match k, h with
  | 0, _ => exact ⟨_, tyX7_ok 0 (by decide), rfl⟩
  | 1, _ => exact ⟨_, tyX7_ok 1 (by decide), rfl⟩
  | 2, _ => exact ⟨_, tyX7_ok 2 (by decide), rfl⟩
  | 3, _ => exact ⟨_, tyX7_ok 3 (by decide), rfl⟩
  | 4, _ => exact ⟨_, tyX7_ok 4 (by decide), rfl⟩
  | 5, _ => exact ⟨_, tyX7_ok 5 (by decide), rfl⟩
  | 6, _ => exact ⟨_, tyX7_ok 6 (by decide), rfl⟩
  | n + 7, h => exact absurd h (by omega)
theorem dfo_5 : ∀ k, k < 2 → ∃ ty, parseFieldDescriptor (TX8 k).2.2.1 = some ty ∧ vp_V (dfT 5) k = defaultValue ty := by
  intro k h
  match k, h with
  | 0, _ => exact ⟨_, tyX8_ok 0 (by decide), rfl⟩
  | 1, _ => exact ⟨_, tyX8_ok 1 (by decide), rfl⟩
  | n + 2, h => exact absurd h (by omega)
theorem dfo_6 : ∀ k, k < 3 → ∃ ty, parseFieldDescriptor (TX9 k).2.2.1 = some ty ∧ vp_V (dfT 6) k = defaultValue ty := by
  intro k h
  match k, h with
  | 0, _ => exact ⟨_, tyX9_ok 0 (by decide), rfl⟩
  | 1, _ => exact ⟨_, tyX9_ok 1 (by decide), rfl⟩
  | 2, _ => exact ⟨_, tyX9_ok 2 (by decide), rfl⟩
  | n + 3, h => exact absurd h (by omega)
theorem dfo_7 : ∀ k, k < 4 → ∃ ty, parseFieldDescriptor (TJ10 k).2.2.1 = some ty ∧ vp_V (dfT 7) k = defaultValue ty := by
  intro k h
  match k, h with
  | 0, _ => exact ⟨_, tyJ10_ok 0 (by decide), rfl⟩
  | 1, _ => exact ⟨_, tyJ10_ok 1 (by decide), rfl⟩
  | 2, _ => exact ⟨_, tyJ10_ok 2 (by decide), rfl⟩
  | 3, _ => exact ⟨_, tyJ10_ok 3 (by decide), rfl⟩
  | n + 4, h => exact absurd h (by omega)
theorem dfo_8 : ∀ k, k < 4 → ∃ ty, parseFieldDescriptor (TJ11 k).2.2.1 = some ty ∧ vp_V (dfT 8) k = defaultValue ty := by
  intro k h
  match k, h with
  | 0, _ => exact ⟨_, tyJ11_ok 0 (by decide), rfl⟩
  | 1, _ => exact ⟨_, tyJ11_ok 1 (by decide), rfl⟩
  | 2, _ => exact ⟨_, tyJ11_ok 2 (by decide), rfl⟩
  | 3, _ => exact ⟨_, tyJ11_ok 3 (by decide), rfl⟩
  | n + 4, h => exact absurd h (by omega)
theorem dfo_9 : ∀ k, k < 6 → ∃ ty, parseFieldDescriptor (TJ7 k).2.2.1 = some ty ∧ vp_V (dfT 9) k = defaultValue ty := by
  intro k h
  match k, h with
  | 0, _ => exact ⟨_, tyJ7_ok 0 (by decide), rfl⟩
  | 1, _ => exact ⟨_, tyJ7_ok 1 (by decide), rfl⟩
  | 2, _ => exact ⟨_, tyJ7_ok 2 (by decide), rfl⟩
  | 3, _ => exact ⟨_, tyJ7_ok 3 (by decide), rfl⟩
  | 4, _ => exact ⟨_, tyJ7_ok 4 (by decide), rfl⟩
  | 5, _ => exact ⟨_, tyJ7_ok 5 (by decide), rfl⟩
  | n + 6, h => exact absurd h (by omega)
theorem dfo_10 : ∀ k, k < 5 → ∃ ty, parseFieldDescriptor (TJ3 k).2.2.1 = some ty ∧ vp_V (dfT 10) k = defaultValue ty := by
  intro k h
  match k, h with
  | 0, _ => exact ⟨_, tyJ3_ok 0 (by decide), rfl⟩
  | 1, _ => exact ⟨_, tyJ3_ok 1 (by decide), rfl⟩
  | 2, _ => exact ⟨_, tyJ3_ok 2 (by decide), rfl⟩
  | 3, _ => exact ⟨_, tyJ3_ok 3 (by decide), rfl⟩
  | 4, _ => exact ⟨_, tyJ3_ok 4 (by decide), rfl⟩
  | n + 5, h => exact absurd h (by omega)
theorem dfo_11 : ∀ k, k < 8 → ∃ ty, parseFieldDescriptor (TJ22 k).2.2.1 = some ty ∧ vp_V (dfT 11) k = defaultValue ty := by
  intro k h
  match k, h with
  | 0, _ => exact ⟨_, tyJ22_ok 0 (by decide), rfl⟩
  | 1, _ => exact ⟨_, tyJ22_ok 1 (by decide), rfl⟩
  | 2, _ => exact ⟨_, tyJ22_ok 2 (by decide), rfl⟩
  | 3, _ => exact ⟨_, tyJ22_ok 3 (by decide), rfl⟩
  | 4, _ => exact ⟨_, tyJ22_ok 4 (by decide), rfl⟩
  | 5, _ => exact ⟨_, tyJ22_ok 5 (by decide), rfl⟩
  | 6, _ => exact ⟨_, tyJ22_ok 6 (by decide), rfl⟩
  | 7, _ => exact ⟨_, tyJ22_ok 7 (by decide), rfl⟩
  | n + 8, h => exact absurd h (by omega)
theorem dfo_12 : ∀ k, k < 8 → ∃ ty, parseFieldDescriptor (TX10 k).2.2.1 = some ty ∧ vp_V (dfT 12) k = defaultValue ty := by
  intro k h
  match k, h with
  | 0, _ => exact ⟨_, tyX10_ok 0 (by decide), rfl⟩
  | 1, _ => exact ⟨_, tyX10_ok 1 (by decide), rfl⟩
  | 2, _ => exact ⟨_, tyX10_ok 2 (by decide), rfl⟩
  | 3, _ => exact ⟨_, tyX10_ok 3 (by decide), rfl⟩
  | 4, _ => exact ⟨_, tyX10_ok 4 (by decide), rfl⟩
  | 5, _ => exact ⟨_, tyX10_ok 5 (by decide), rfl⟩
  | 6, _ => exact ⟨_, tyX10_ok 6 (by decide), rfl⟩
  | 7, _ => exact ⟨_, tyX10_ok 7 (by decide), rfl⟩
  | n + 8, h => exact absurd h (by omega)
theorem dfo_13 : ∀ k, k < 1 → ∃ ty, parseFieldDescriptor (TX12 k).2.2.1 = some ty ∧ vp_V (dfT 13) k = defaultValue ty := by
  intro k h
  match k, h with
  | 0, _ => exact ⟨_, tyX12_ok 0 (by decide), rfl⟩
  | n + 1, h => exact absurd h (by omega)
theorem dfo_14 : ∀ k, k < 1 → ∃ ty, parseFieldDescriptor (TJ26 k).2.2.1 = some ty ∧ vp_V (dfT 14) k = defaultValue ty := by
  intro k h
  match k, h with
  | 0, _ => exact ⟨_, tyJ26_ok 0 (by decide), rfl⟩
  | n + 1, h => exact absurd h (by omega)
theorem dfo_15 : ∀ k, k < 1 → ∃ ty, parseFieldDescriptor (TJ19 k).2.2.1 = some ty ∧ vp_V (dfT 15) k = defaultValue ty := by
  intro k h
  match k, h with
  | 0, _ => exact ⟨_, tyJ19_ok 0 (by decide), rfl⟩
  | n + 1, h => exact absurd h (by omega)
theorem dfo_16 : ∀ k, k < 2 → ∃ ty, parseFieldDescriptor (TX13 k).2.2.1 = some ty ∧ vp_V (dfT 16) k = defaultValue ty := by
  intro k h
  match k, h with
  | 0, _ => exact ⟨_, tyX13_ok 0 (by decide), rfl⟩
  | 1, _ => exact ⟨_, tyX13_ok 1 (by decide), rfl⟩
  | n + 2, h => exact absurd h (by omega)
theorem dfo_17 : ∀ k, k < 2 → ∃ ty, parseFieldDescriptor (TX14 k).2.2.1 = some ty ∧ vp_V (dfT 17) k = defaultValue ty := by
  intro k h
  match k, h with
  | 0, _ => exact ⟨_, tyX14_ok 0 (by decide), rfl⟩
  | 1, _ => exact ⟨_, tyX14_ok 1 (by decide), rfl⟩
  | n + 2, h => exact absurd h (by omega)
theorem dfo_18 : ∀ k, k < 1 → ∃ ty, parseFieldDescriptor (TX15 k).2.2.1 = some ty ∧ vp_V (dfT 18) k = defaultValue ty := by
  intro k h
  match k, h with
  | 0, _ => exact ⟨_, tyX15_ok 0 (by decide), rfl⟩
  | n + 1, h => exact absurd h (by omega)
theorem dfo_19 : ∀ k, k < 3 → ∃ ty, parseFieldDescriptor (TX16 k).2.2.1 = some ty ∧ vp_V (dfT 19) k = defaultValue ty := by
  intro k h
  match k, h with
  | 0, _ => exact ⟨_, tyX16_ok 0 (by decide), rfl⟩
  | 1, _ => exact ⟨_, tyX16_ok 1 (by decide), rfl⟩
  | 2, _ => exact ⟨_, tyX16_ok 2 (by decide), rfl⟩
  | n + 3, h => exact absurd h (by omega)
theorem dfo_20 : ∀ k, k < 2 → ∃ ty, parseFieldDescriptor (TX17 k).2.2.1 = some ty ∧ vp_V (dfT 20) k = defaultValue ty := by
  intro k h
  match k, h with
  | 0, _ => exact ⟨_, tyX17_ok 0 (by decide), rfl⟩
  | 1, _ => exact ⟨_, tyX17_ok 1 (by decide), rfl⟩
  | n + 2, h => exact absurd h (by omega)
theorem dfo_21 : ∀ k, k < 4 → ∃ ty, parseFieldDescriptor (TJ27 k).2.2.1 = some ty ∧ vp_V (dfT 21) k = defaultValue ty := by
  intro k h
  match k, h with
  | 0, _ => exact ⟨_, tyJ27_ok 0 (by decide), rfl⟩
  | 1, _ => exact ⟨_, tyJ27_ok 1 (by decide), rfl⟩
  | 2, _ => exact ⟨_, tyJ27_ok 2 (by decide), rfl⟩
  | 3, _ => exact ⟨_, tyJ27_ok 3 (by decide), rfl⟩
  | n + 4, h => exact absurd h (by omega)
theorem dfo_22 : ∀ k, k < 11 → ∃ ty, parseFieldDescriptor (TJ29 k).2.2.1 = some ty ∧ vp_V (dfT 22) k = defaultValue ty := by
  intro k h
  match k, h with
  | 0, _ => exact ⟨_, tyJ29_ok 0 (by decide), rfl⟩
  | 1, _ => exact ⟨_, tyJ29_ok 1 (by decide), rfl⟩
  | 2, _ => exact ⟨_, tyJ29_ok 2 (by decide), rfl⟩
  | 3, _ => exact ⟨_, tyJ29_ok 3 (by decide), rfl⟩
  | 4, _ => exact ⟨_, tyJ29_ok 4 (by decide), rfl⟩
  | 5, _ => exact ⟨_, tyJ29_ok 5 (by decide), rfl⟩
  | 6, _ => exact ⟨_, tyJ29_ok 6 (by decide), rfl⟩
  | 7, _ => exact ⟨_, tyJ29_ok 7 (by decide), rfl⟩
  | 8, _ => exact ⟨_, tyJ29_ok 8 (by decide), rfl⟩
  | 9, _ => exact ⟨_, tyJ29_ok 9 (by decide), rfl⟩
  | 10, _ => exact ⟨_, tyJ29_ok 10 (by decide), rfl⟩
  | n + 11, h => exact absurd h (by omega)
theorem dfo_23 : ∀ k, k < 6 → ∃ ty, parseFieldDescriptor (TX18 k).2.2.1 = some ty ∧ vp_V (dfT 23) k = defaultValue ty := by
  intro k h
  match k, h with
  | 0, _ => exact ⟨_, tyX18_ok 0 (by decide), rfl⟩
  | 1, _ => exact ⟨_, tyX18_ok 1 (by decide), rfl⟩
  | 2, _ => exact ⟨_, tyX18_ok 2 (by decide), rfl⟩
  | 3, _ => exact ⟨_, tyX18_ok 3 (by decide), rfl⟩
  | 4, _ => exact ⟨_, tyX18_ok 4 (by decide), rfl⟩
  | 5, _ => exact ⟨_, tyX18_ok 5 (by decide), rfl⟩
  | n + 6, h => exact absurd h (by omega)
theorem dfo_24 : ∀ k, k < 2 → ∃ ty, parseFieldDescriptor (TX19 k).2.2.1 = some ty ∧ vp_V (dfT 24) k = defaultValue ty := by
  intro k h
  match k, h with
  | 0, _ => exact ⟨_, tyX19_ok 0 (by decide), rfl⟩
  | 1, _ => exact ⟨_, tyX19_ok 1 (by decide), rfl⟩
  | n + 2, h => exact absurd h (by omega)
theorem dfo_25 : ∀ k, k < 1 → ∃ ty, parseFieldDescriptor (TX20 k).2.2.1 = some ty ∧ vp_V (dfT 25) k = defaultValue ty := by
  intro k h
  match k, h with
  | 0, _ => exact ⟨_, tyX20_ok 0 (by decide), rfl⟩
  | n + 1, h => exact absurd h (by omega)
theorem dfo_26 : ∀ k, k < 2 → ∃ ty, parseFieldDescriptor (TX21 k).2.2.1 = some ty ∧ vp_V (dfT 26) k = defaultValue ty := by
  intro k h
  match k, h with
  | 0, _ => exact ⟨_, tyX21_ok 0 (by decide), rfl⟩
  | 1, _ => exact ⟨_, tyX21_ok 1 (by decide), rfl⟩
  | n + 2, h => exact absurd h (by omega)
theorem dfo_27 : ∀ k, k < 3 → ∃ ty, parseFieldDescriptor (TX22 k).2.2.1 = some ty ∧ vp_V (dfT 27) k = defaultValue ty := by
  intro k h
  match k, h with
  | 0, _ => exact ⟨_, tyX22_ok 0 (by decide), rfl⟩
  | 1, _ => exact ⟨_, tyX22_ok 1 (by decide), rfl⟩
  | 2, _ => exact ⟨_, tyX22_ok 2 (by decide), rfl⟩
  | n + 3, h => exact absurd h (by omega)
theorem dfo_28 : ∀ k, k < 0 → ∃ ty, parseFieldDescriptor (TX24e k).2.2.1 = some ty ∧ vp_V (dfT 28) k = defaultValue ty := by
  intro k h
  exact absurd h (Nat.not_lt_zero k)
theorem dfo_29 : ∀ k, k < 4 → ∃ ty, parseFieldDescriptor (TJ32 k).2.2.1 = some ty ∧ vp_V (dfT 29) k = defaultValue ty := by
  intro k h
  match k, h with
  | 0, _ => exact ⟨_, tyJ32_ok 0 (by decide), rfl⟩
  | 1, _ => exact ⟨_, tyJ32_ok 1 (by decide), rfl⟩
  | 2, _ => exact ⟨_, tyJ32_ok 2 (by decide), rfl⟩
  | 3, _ => exact ⟨_, tyJ32_ok 3 (by decide), rfl⟩
  | n + 4, h => exact absurd h (by omega)
theorem dfo_30 : ∀ k, k < 6 → ∃ ty, parseFieldDescriptor (TJ30 k).2.2.1 = some ty ∧ vp_V (dfT 30) k = defaultValue ty := by
  intro k h
  match k, h with
  | 0, _ => exact ⟨_, tyJ30_ok 0 (by decide), rfl⟩
  | 1, _ => exact ⟨_, tyJ30_ok 1 (by decide), rfl⟩
  | 2, _ => exact ⟨_, tyJ30_ok 2 (by decide), rfl⟩
  | 3, _ => exact ⟨_, tyJ30_ok 3 (by decide), rfl⟩
  | 4, _ => exact ⟨_, tyJ30_ok 4 (by decide), rfl⟩
  | 5, _ => exact ⟨_, tyJ30_ok 5 (by decide), rfl⟩
  | n + 6, h => exact absurd h (by omega)
theorem dfo_31 : ∀ k, k < 6 → ∃ ty, parseFieldDescriptor (TJ6 k).2.2.1 = some ty ∧ vp_V (dfT 31) k = defaultValue ty := by
  intro k h
  match k, h with
  | 0, _ => exact ⟨_, tyJ6_ok 0 (by decide), rfl⟩
  | 1, _ => exact ⟨_, tyJ6_ok 1 (by decide), rfl⟩
  | 2, _ => exact ⟨_, tyJ6_ok 2 (by decide), rfl⟩
  | 3, _ => exact ⟨_, tyJ6_ok 3 (by decide), rfl⟩
  | 4, _ => exact ⟨_, tyJ6_ok 4 (by decide), rfl⟩
  | 5, _ => exact ⟨_, tyJ6_ok 5 (by decide), rfl⟩
  | n + 6, h => exact absurd h (by omega)
theorem dfo_32 : ∀ k, k < 6 → ∃ ty, parseFieldDescriptor (TJ31 k).2.2.1 = some ty ∧ vp_V (dfT 32) k = defaultValue ty := by
  intro k h
  match k, h with
  | 0, _ => exact ⟨_, tyJ31_ok 0 (by decide), rfl⟩
  | 1, _ => exact ⟨_, tyJ31_ok 1 (by decide), rfl⟩
  | 2, _ => exact ⟨_, tyJ31_ok 2 (by decide), rfl⟩
  | 3, _ => exact ⟨_, tyJ31_ok 3 (by decide), rfl⟩
  | 4, _ => exact ⟨_, tyJ31_ok 4 (by decide), rfl⟩
  | 5, _ => exact ⟨_, tyJ31_ok 5 (by decide), rfl⟩
  | n + 6, h => exact absurd h (by omega)
theorem dfo_33 : ∀ k, k < 19 → ∃ ty, parseFieldDescriptor (TX4 k).2.2.1 = some ty ∧ vp_V (dfT 33) k = defaultValue ty := by
  intro k h
  match k, h with
  | 0, _ => exact ⟨_, tyX4_ok 0 (by decide), rfl⟩
  | 1, _ => exact ⟨_, tyX4_ok 1 (by decide), rfl⟩
  | 2, _ => exact ⟨_, tyX4_ok 2 (by decide), rfl⟩
  | 3, _ => exact ⟨_, tyX4_ok 3 (by decide), rfl⟩
  | 4, _ => exact ⟨_, tyX4_ok 4 (by decide), rfl⟩
  | 5, _ => exact ⟨_, tyX4_ok 5 (by decide), rfl⟩
  | 6, _ => exact ⟨_, tyX4_ok 6 (by decide), rfl⟩
  | 7, _ => exact ⟨_, tyX4_ok 7 (by decide), rfl⟩
  | 8, _ => exact ⟨_, tyX4_ok 8 (by decide), rfl⟩
  | 9, _ => exact ⟨_, tyX4_ok 9 (by decide), rfl⟩
  | 10, _ => exact ⟨_, tyX4_ok 10 (by decide), rfl⟩
  | 11, _ => exact ⟨_, tyX4_ok 11 (by decide), rfl⟩
  | 12, _ => exact ⟨_, tyX4_ok 12 (by decide), rfl⟩
  | 13, _ => exact ⟨_, tyX4_ok 13 (by decide), rfl⟩
  | 14, _ => exact ⟨_, tyX4_ok 14 (by decide), rfl⟩
  | 15, _ => exact ⟨_, tyX4_ok 15 (by decide), rfl⟩
  | 16, _ => exact ⟨_, tyX4_ok 16 (by decide), rfl⟩
  | 17, _ => exact ⟨_, tyX4_ok 17 (by decide), rfl⟩
  | 18, _ => exact ⟨_, tyX4_ok 18 (by decide), rfl⟩
  | n + 19, h => exact absurd h (by omega)
theorem dfo_34 : ∀ k, k < 13 → ∃ ty, parseFieldDescriptor (TX5 k).2.2.1 = some ty ∧ vp_V (dfT 34) k = defaultValue ty := by
  intro k h
  match k, h with
  | 0, _ => exact ⟨_, tyX5_ok 0 (by decide), rfl⟩
  | 1, _ => exact ⟨_, tyX5_ok 1 (by decide), rfl⟩
  | 2, _ => exact ⟨_, tyX5_ok 2 (by decide), rfl⟩
  | 3, _ => exact ⟨_, tyX5_ok 3 (by decide), rfl⟩
  | 4, _ => exact ⟨_, tyX5_ok 4 (by decide), rfl⟩
  | 5, _ => exact ⟨_, tyX5_ok 5 (by decide), rfl⟩
  | 6, _ => exact ⟨_, tyX5_ok 6 (by decide), rfl⟩
  | 7, _ => exact ⟨_, tyX5_ok 7 (by decide), rfl⟩
  | 8, _ => exact ⟨_, tyX5_ok 8 (by decide), rfl⟩
  | 9, _ => exact ⟨_, tyX5_ok 9 (by decide), rfl⟩
  | 10, _ => exact ⟨_, tyX5_ok 10 (by decide), rfl⟩
  | 11, _ => exact ⟨_, tyX5_ok 11 (by decide), rfl⟩
  | 12, _ => exact ⟨_, tyX5_ok 12 (by decide), rfl⟩
  | n + 13, h => exact absurd h (by omega)
theorem dfo_35 : ∀ k, k < 2 → ∃ ty, parseFieldDescriptor (TX6 k).2.2.1 = some ty ∧ vp_V (dfT 35) k = defaultValue ty := by
  intro k h
  match k, h with
  | 0, _ => exact ⟨_, tyX6_ok 0 (by decide), rfl⟩
  | 1, _ => exact ⟨_, tyX6_ok 1 (by decide), rfl⟩
  | n + 2, h => exact absurd h (by omega)
def nwT0 : List (Nat × Nat) := [(57, 1), (68, 2), (91, 4), (93, 5), (10, 30), (7, 31), (1, 9)]
theorem nwp0_0 : xNw 0 57 1 := ⟨by decide, _, _, _, rfl, q185, q186, q113, rfl, dfo_1⟩
theorem nwp0_1 : xNw 0 68 2 := ⟨by decide, _, _, _, rfl, q201, q202, q114, rfl, dfo_2⟩
theorem nwp0_2 : xNw 0 91 4 := ⟨by decide, _, _, _, rfl, q304, q305, q126, rfl, dfo_4⟩
theorem nwp0_3 : xNw 0 93 5 := ⟨by decide, _, _, _, rfl, q306, q307, q127, rfl, dfo_5⟩
theorem nwp0_4 : xNw 0 10 30 := ⟨by decide, _, _, _, rfl, q2367, q2368, q174, rfl, dfo_30⟩
theorem nwp0_5 : xNw 0 7 31 := ⟨by decide, _, _, _, rfl, q2506, q2507, q124, rfl, dfo_31⟩
theorem nwp0_6 : xNw 0 1 9 := ⟨by decide, _, _, _, rfl, q2539, q538, q125, rfl, dfo_9⟩
theorem nwo0 : ∀ e ∈ nwT0, xNw 0 e.1 e.2 := List.forall_mem_cons.mpr ⟨nwp0_0, List.forall_mem_cons.mpr ⟨nwp0_1, List.forall_mem_cons.mpr ⟨nwp0_2, List.forall_mem_cons.mpr ⟨nwp0_3, List.forall_mem_cons.mpr ⟨nwp0_4, List.forall_mem_cons.mpr ⟨nwp0_5, List.forall_mem_cons.mpr ⟨nwp0_6, (fun _ h => by cases h)⟩⟩⟩⟩⟩⟩⟩
def nwT1 : List (Nat × Nat) := []
theorem nwo1 : ∀ e ∈ nwT1, xNw 1 e.1 e.2 := (fun _ h => by cases h)
def nwT2 : List (Nat × Nat) := []
theorem nwo2 : ∀ e ∈ nwT2, xNw 2 e.1 e.2 := (fun _ h => by cases h)
def nwT3 : List (Nat × Nat) := []
theorem nwo3 : ∀ e ∈ nwT3, xNw 3 e.1 e.2 := (fun _ h => by cases h)
def nwT4 : List (Nat × Nat) := []
theorem nwo4 : ∀ e ∈ nwT4, xNw 4 e.1 e.2 := (fun _ h => by cases h)
def nwT5 : List (Nat × Nat) := []
theorem nwo5 : ∀ e ∈ nwT5, xNw 5 e.1 e.2 := (fun _ h => by cases h)
def nwT6 : List (Nat × Nat) := []
theorem nwo6 : ∀ e ∈ nwT6, xNw 6 e.1 e.2 := (fun _ h => by cases h)
def nwT7 : List (Nat × Nat) := []
theorem nwo7 : ∀ e ∈ nwT7, xNw 7 e.1 e.2 := (fun _ h => by cases h)
def nwT8 : List (Nat × Nat) := []
theorem nwo8 : ∀ e ∈ nwT8, xNw 8 e.1 e.2 := (fun _ h => by cases h)
def nwT9 : List (Nat × Nat) := []
theorem nwo9 : ∀ e ∈ nwT9, xNw 9 e.1 e.2 := (fun _ h => by cases h)
def nwT10 : List (Nat × Nat) := []
theorem nwo10 : ∀ e ∈ nwT10, xNw 10 e.1 e.2 := (fun _ h => by cases h)
def nwT11 : List (Nat × Nat) := []
theorem nwo11 : ∀ e ∈ nwT11, xNw 11 e.1 e.2 := (fun _ h => by cases h)
def nwT12 : List (Nat × Nat) := [(9, 2), (18, 11), (44, 12), (337, 19), (364, 13), (371, 16), (383, 17), (395, 18), (181, 3), (192, 20), (245, 23), (261, 24), (284, 25), (298, 26), (316, 27)]
theorem nwp12_0 : xNw 12 9 2 := ⟨by decide, _, _, _, rfl, q869, q202, q114, rfl, dfo_2⟩
theorem nwp12_1 : xNw 12 18 11 := ⟨by decide, _, _, _, rfl, q871, q872, q145, rfl, dfo_11⟩
theorem nwp12_2 : xNw 12 44 12 := ⟨by decide, _, _, _, rfl, q986, q987, q147, rfl, dfo_12⟩
theorem nwp12_3 : xNw 12 337 19 := ⟨by decide, _, _, _, rfl, q1657, q1658, q161, rfl, dfo_19⟩
theorem nwp12_4 : xNw 12 364 13 := ⟨by decide, _, _, _, rfl, q1522, q1523, q152, rfl, dfo_13⟩
theorem nwp12_5 : xNw 12 371 16 := ⟨by decide, _, _, _, rfl, q1600, q1601, q155, rfl, dfo_16⟩
theorem nwp12_6 : xNw 12 383 17 := ⟨by decide, _, _, _, rfl, q1615, q1616, q157, rfl, dfo_17⟩
theorem nwp12_7 : xNw 12 395 18 := ⟨by decide, _, _, _, rfl, q1641, q1642, q159, rfl, dfo_18⟩
theorem nwp12_8 : xNw 12 181 3 := ⟨by decide, _, _, _, rfl, q1951, q208, q117, rfl, dfo_3⟩
theorem nwp12_9 : xNw 12 192 20 := ⟨by decide, _, _, _, rfl, q1990, q1740, q165, rfl, dfo_20⟩
theorem nwp12_10 : xNw 12 245 23 := ⟨by decide, _, _, _, rfl, q2038, q2039, q167, rfl, dfo_23⟩
theorem nwp12_11 : xNw 12 261 24 := ⟨by decide, _, _, _, rfl, q2045, q2046, q168, rfl, dfo_24⟩
theorem nwp12_12 : xNw 12 284 25 := ⟨by decide, _, _, _, rfl, q2070, q2071, q169, rfl, dfo_25⟩
theorem nwp12_13 : xNw 12 298 26 := ⟨by decide, _, _, _, rfl, q2083, q2084, q170, rfl, dfo_26⟩
theorem nwp12_14 : xNw 12 316 27 := ⟨by decide, _, _, _, rfl, q2100, q2101, q171, rfl, dfo_27⟩
theorem nwo12 : ∀ e ∈ nwT12, xNw 12 e.1 e.2 := List.forall_mem_cons.mpr ⟨nwp12_0, List.forall_mem_cons.mpr ⟨nwp12_1, List.forall_mem_cons.mpr ⟨nwp12_2, List.forall_mem_cons.mpr ⟨nwp12_3, List.forall_mem_cons.mpr ⟨nwp12_4, List.forall_mem_cons.mpr ⟨nwp12_5, List.forall_mem_cons.mpr ⟨nwp12_6, List.forall_mem_cons.mpr ⟨nwp12_7, List.forall_mem_cons.mpr ⟨nwp12_8, List.forall_mem_cons.mpr ⟨nwp12_9, List.forall_mem_cons.mpr ⟨nwp12_10, List.forall_mem_cons.mpr ⟨nwp12_11, List.forall_mem_cons.mpr ⟨nwp12_12, List.forall_mem_cons.mpr ⟨nwp12_13, List.forall_mem_cons.mpr ⟨nwp12_14, (fun _ h => by cases h)⟩⟩⟩⟩⟩⟩⟩⟩⟩⟩⟩⟩⟩⟩⟩
def nwT13 : List (Nat × Nat) := [(9, 3), (54, 6)]
theorem nwp13_0 : xNw 13 9 3 := ⟨by decide, _, _, _, rfl, q312, q208, q117, rfl, dfo_3⟩
theorem nwp13_1 : xNw 13 54 6 := ⟨by decide, _, _, _, rfl, q340, q341, q128, rfl, dfo_6⟩
theorem nwo13 : ∀ e ∈ nwT13, xNw 13 e.1 e.2 := List.forall_mem_cons.mpr ⟨nwp13_0, List.forall_mem_cons.mpr ⟨nwp13_1, (fun _ h => by cases h)⟩⟩
def nwT14 : List (Nat × Nat) := [(7, 3)]
theorem nwp14_0 : xNw 14 7 3 := ⟨by decide, _, _, _, rfl, q2051, q208, q117, rfl, dfo_3⟩
theorem nwo14 : ∀ e ∈ nwT14, xNw 14 e.1 e.2 := List.forall_mem_cons.mpr ⟨nwp14_0, (fun _ h => by cases h)⟩
def nwT15 : List (Nat × Nat) := []
theorem nwo15 : ∀ e ∈ nwT15, xNw 15 e.1 e.2 := (fun _ h => by cases h)
def nwT16 : List (Nat × Nat) := []
theorem nwo16 : ∀ e ∈ nwT16, xNw 16 e.1 e.2 := (fun _ h => by cases h)
def nwT17 : List (Nat × Nat) := []
theorem nwo17 : ∀ e ∈ nwT17, xNw 17 e.1 e.2 := (fun _ h => by cases h)
def nwT18 : List (Nat × Nat) := []
theorem nwo18 : ∀ e ∈ nwT18, xNw 18 e.1 e.2 := (fun _ h => by cases h)
def nwT19 : List (Nat × Nat) := []
theorem nwo19 : ∀ e ∈ nwT19, xNw 19 e.1 e.2 := (fun _ h => by cases h)
def nwT20 : List (Nat × Nat) := []
theorem nwo20 : ∀ e ∈ nwT20, xNw 20 e.1 e.2 := (fun _ h => by cases h)
def nwT21 : List (Nat × Nat) := []
theorem nwo21 : ∀ e ∈ nwT21, xNw 21 e.1 e.2 := (fun _ h => by cases h)
def nwT22 : List (Nat × Nat) := []
theorem nwo22 : ∀ e ∈ nwT22, xNw 22 e.1 e.2 := (fun _ h => by cases h)
def nwT23 : List (Nat × Nat) := [(18, 3), (55, 20)]
theorem nwp23_0 : xNw 23 18 3 := ⟨by decide, _, _, _, rfl, q207, q208, q117, rfl, dfo_3⟩
theorem nwp23_1 : xNw 23 55 20 := ⟨by decide, _, _, _, rfl, q2350, q1740, q165, rfl, dfo_20⟩
theorem nwo23 : ∀ e ∈ nwT23, xNw 23 e.1 e.2 := List.forall_mem_cons.mpr ⟨nwp23_0, List.forall_mem_cons.mpr ⟨nwp23_1, (fun _ h => by cases h)⟩⟩
def nwT24 : List (Nat × Nat) := [(95, 3)]
theorem nwp24_0 : xNw 24 95 3 := ⟨by decide, _, _, _, rfl, q2441, q208, q117, rfl, dfo_3⟩
theorem nwo24 : ∀ e ∈ nwT24, xNw 24 e.1 e.2 := List.forall_mem_cons.mpr ⟨nwp24_0, (fun _ h => by cases h)⟩
def nwT25 : List (Nat × Nat) := [(19, 7)]
theorem nwp25_0 : xNw 25 19 7 := ⟨by decide, _, _, _, rfl, q374, q375, q132, rfl, dfo_7⟩
theorem nwo25 : ∀ e ∈ nwT25, xNw 25 e.1 e.2 := List.forall_mem_cons.mpr ⟨nwp25_0, (fun _ h => by cases h)⟩
def nwT26 : List (Nat × Nat) := [(1, 28)]
theorem nwp26_0 : xNw 26 1 28 := ⟨by decide, _, _, _, rfl, q2121, q2122, q173, rfl, dfo_28⟩
theorem nwo26 : ∀ e ∈ nwT26, xNw 26 e.1 e.2 := List.forall_mem_cons.mpr ⟨nwp26_0, (fun _ h => by cases h)⟩
def nwT27 : List (Nat × Nat) := []
theorem nwo27 : ∀ e ∈ nwT27, xNw 27 e.1 e.2 := (fun _ h => by cases h)
def nwT28 : List (Nat × Nat) := []
theorem nwo28 : ∀ e ∈ nwT28, xNw 28 e.1 e.2 := (fun _ h => by cases h)
def nwT29 : List (Nat × Nat) := []
theorem nwo29 : ∀ e ∈ nwT29, xNw 29 e.1 e.2 := (fun _ h => by cases h)
def nwT30 : List (Nat × Nat) := []
theorem nwo30 : ∀ e ∈ nwT30, xNw 30 e.1 e.2 := (fun _ h => by cases h)
def nwT31 : List (Nat × Nat) := []
theorem nwo31 : ∀ e ∈ nwT31, xNw 31 e.1 e.2 := (fun _ h => by cases h)
def nwT32 : List (Nat × Nat) := []
theorem nwo32 : ∀ e ∈ nwT32, xNw 32 e.1 e.2 := (fun _ h => by cases h)
def nwT33 : List (Nat × Nat) := [(8, 0), (76, 33)]
theorem nwp33_0 : xNw 33 8 0 := ⟨by decide, _, _, _, rfl, q177, q178, q112, rfl, dfo_0⟩
theorem nwp33_1 : xNw 33 76 33 := ⟨by decide, _, _, _, rfl, q2713, q2714, q118, rfl, dfo_33⟩
theorem nwo33 : ∀ e ∈ nwT33, xNw 33 e.1 e.2 := List.forall_mem_cons.mpr ⟨nwp33_0, List.forall_mem_cons.mpr ⟨nwp33_1, (fun _ h => by cases h)⟩⟩
def nwT34 : List (Nat × Nat) := [(17, 34), (24, 35), (315, 7)]
theorem nwp34_0 : xNw 34 17 34 := ⟨by decide, _, _, _, rfl, q2719, q2720, q119, rfl, dfo_34⟩
theorem nwp34_1 : xNw 34 24 35 := ⟨by decide, _, _, _, rfl, q2776, q2777, q120, rfl, dfo_35⟩
theorem nwp34_2 : xNw 34 315 7 := ⟨by decide, _, _, _, rfl, q2973, q375, q132, rfl, dfo_7⟩
theorem nwo34 : ∀ e ∈ nwT34, xNw 34 e.1 e.2 := List.forall_mem_cons.mpr ⟨nwp34_0, List.forall_mem_cons.mpr ⟨nwp34_1, List.forall_mem_cons.mpr ⟨nwp34_2, (fun _ h => by cases h)⟩⟩⟩
def nwT35 : List (Nat × Nat) := []
theorem nwo35 : ∀ e ∈ nwT35, xNw 35 e.1 e.2 := (fun _ h => by cases h)
def nwT36 : List (Nat × Nat) := []
theorem nwo36 : ∀ e ∈ nwT36, xNw 36 e.1 e.2 := (fun _ h => by cases h)
def nwT37 : List (Nat × Nat) := []
theorem nwo37 : ∀ e ∈ nwT37, xNw 37 e.1 e.2 := (fun _ h => by cases h)
def nwT38 : List (Nat × Nat) := []
theorem nwo38 : ∀ e ∈ nwT38, xNw 38 e.1 e.2 := (fun _ h => by cases h)
def nwT39 : List (Nat × Nat) := []
theorem nwo39 : ∀ e ∈ nwT39, xNw 39 e.1 e.2 := (fun _ h => by cases h)
def nwT40 : List (Nat × Nat) := []
theorem nwo40 : ∀ e ∈ nwT40, xNw 40 e.1 e.2 := (fun _ h => by cases h)
def nwT41 : List (Nat × Nat) := []
theorem nwo41 : ∀ e ∈ nwT41, xNw 41 e.1 e.2 := (fun _ h => by cases h)
def nwT42 : List (Nat × Nat) := []
theorem nwo42 : ∀ e ∈ nwT42, xNw 42 e.1 e.2 := (fun _ h => by cases h)
def nwT43 : List (Nat × Nat) := []
theorem nwo43 : ∀ e ∈ nwT43, xNw 43 e.1 e.2 := (fun _ h => by cases h)
def nwT44 : List (Nat × Nat) := []
theorem nwo44 : ∀ e ∈ nwT44, xNw 44 e.1 e.2 := (fun _ h => by cases h)
def nwT45 : List (Nat × Nat) := [(1, 15)]
theorem nwp45_0 : xNw 45 1 15 := ⟨by decide, _, _, _, rfl, q1187, q1583, q142, rfl, dfo_15⟩
theorem nwo45 : ∀ e ∈ nwT45, xNw 45 e.1 e.2 := List.forall_mem_cons.mpr ⟨nwp45_0, (fun _ h => by cases h)⟩
def nwT46 : List (Nat × Nat) := []
theorem nwo46 : ∀ e ∈ nwT46, xNw 46 e.1 e.2 := (fun _ h => by cases h)
def nwT47 : List (Nat × Nat) := []
theorem nwo47 : ∀ e ∈ nwT47, xNw 47 e.1 e.2 := (fun _ h => by cases h)
def nwT48 : List (Nat × Nat) := []
theorem nwo48 : ∀ e ∈ nwT48, xNw 48 e.1 e.2 := (fun _ h => by cases h)
def nwT49 : List (Nat × Nat) := []
theorem nwo49 : ∀ e ∈ nwT49, xNw 49 e.1 e.2 := (fun _ h => by cases h)
def nwT50 : List (Nat × Nat) := []
theorem nwo50 : ∀ e ∈ nwT50, xNw 50 e.1 e.2 := (fun _ h => by cases h)
def nwT51 : List (Nat × Nat) := []
theorem nwo51 : ∀ e ∈ nwT51, xNw 51 e.1 e.2 := (fun _ h => by cases h)
def nwT52 : List (Nat × Nat) := [(18, 8)]
theorem nwp52_0 : xNw 52 18 8 := ⟨by decide, _, _, _, rfl, q505, q506, q133, rfl, dfo_8⟩
theorem nwo52 : ∀ e ∈ nwT52, xNw 52 e.1 e.2 := List.forall_mem_cons.mpr ⟨nwp52_0, (fun _ h => by cases h)⟩
def nwT53 : List (Nat × Nat) := []
theorem nwo53 : ∀ e ∈ nwT53, xNw 53 e.1 e.2 := (fun _ h => by cases h)
def nwT54 : List (Nat × Nat) := []
theorem nwo54 : ∀ e ∈ nwT54, xNw 54 e.1 e.2 := (fun _ h => by cases h)
def nwT55 : List (Nat × Nat) := []
theorem nwo55 : ∀ e ∈ nwT55, xNw 55 e.1 e.2 := (fun _ h => by cases h)
def nwT56 : List (Nat × Nat) := []
theorem nwo56 : ∀ e ∈ nwT56, xNw 56 e.1 e.2 := (fun _ h => by cases h)
def nwT57 : List (Nat × Nat) := []
theorem nwo57 : ∀ e ∈ nwT57, xNw 57 e.1 e.2 := (fun _ h => by cases h)
def nwT58 : List (Nat × Nat) := []
theorem nwo58 : ∀ e ∈ nwT58, xNw 58 e.1 e.2 := (fun _ h => by cases h)
def nwT59 : List (Nat × Nat) := []
theorem nwo59 : ∀ e ∈ nwT59, xNw 59 e.1 e.2 := (fun _ h => by cases h)
def nwT60 : List (Nat × Nat) := [(267, 29)]
theorem nwp60_0 : xNw 60 267 29 := ⟨by decide, _, _, _, rfl, q2308, q2309, q176, rfl, dfo_29⟩
theorem nwo60 : ∀ e ∈ nwT60, xNw 60 e.1 e.2 := List.forall_mem_cons.mpr ⟨nwp60_0, (fun _ h => by cases h)⟩
def nwT61 : List (Nat × Nat) := []
theorem nwo61 : ∀ e ∈ nwT61, xNw 61 e.1 e.2 := (fun _ h => by cases h)
def nwT62 : List (Nat × Nat) := [(43, 9), (45, 7)]
theorem nwp62_0 : xNw 62 43 9 := ⟨by decide, _, _, _, rfl, q537, q538, q125, rfl, dfo_9⟩
theorem nwp62_1 : xNw 62 45 7 := ⟨by decide, _, _, _, rfl, q580, q375, q132, rfl, dfo_7⟩
theorem nwo62 : ∀ e ∈ nwT62, xNw 62 e.1 e.2 := List.forall_mem_cons.mpr ⟨nwp62_0, List.forall_mem_cons.mpr ⟨nwp62_1, (fun _ h => by cases h)⟩⟩
def nwT63 : List (Nat × Nat) := [(163, 21), (180, 22)]
theorem nwp63_0 : xNw 63 163 21 := ⟨by decide, _, _, _, rfl, q1820, q1835, q162, rfl, dfo_21⟩
theorem nwp63_1 : xNw 63 180 22 := ⟨by decide, _, _, _, rfl, q1197, q1895, q164, rfl, dfo_22⟩
theorem nwo63 : ∀ e ∈ nwT63, xNw 63 e.1 e.2 := List.forall_mem_cons.mpr ⟨nwp63_0, List.forall_mem_cons.mpr ⟨nwp63_1, (fun _ h => by cases h)⟩⟩
def nwT64 : List (Nat × Nat) := []
theorem nwo64 : ∀ e ∈ nwT64, xNw 64 e.1 e.2 := (fun _ h => by cases h)
def nwT65 : List (Nat × Nat) := []
theorem nwo65 : ∀ e ∈ nwT65, xNw 65 e.1 e.2 := (fun _ h => by cases h)
def nwT66 : List (Nat × Nat) := []
theorem nwo66 : ∀ e ∈ nwT66, xNw 66 e.1 e.2 := (fun _ h => by cases h)
def nwT67 : List (Nat × Nat) := []
theorem nwo67 : ∀ e ∈ nwT67, xNw 67 e.1 e.2 := (fun _ h => by cases h)
def nwT68 : List (Nat × Nat) := [(2, 14)]
theorem nwp68_0 : xNw 68 2 14 := ⟨by decide, _, _, _, rfl, q1566, q1567, q153, rfl, dfo_14⟩
theorem nwo68 : ∀ e ∈ nwT68, xNw 68 e.1 e.2 := List.forall_mem_cons.mpr ⟨nwp68_0, (fun _ h => by cases h)⟩
def nwT69 : List (Nat × Nat) := []
theorem nwo69 : ∀ e ∈ nwT69, xNw 69 e.1 e.2 := (fun _ h => by cases h)
def nwT70 : List (Nat × Nat) := [(89, 7), (87, 9)]
theorem nwp70_0 : xNw 70 89 7 := ⟨by decide, _, _, _, rfl, q1123, q375, q132, rfl, dfo_7⟩
theorem nwp70_1 : xNw 70 87 9 := ⟨by decide, _, _, _, rfl, q1122, q538, q125, rfl, dfo_9⟩
theorem nwo70 : ∀ e ∈ nwT70, xNw 70 e.1 e.2 := List.forall_mem_cons.mpr ⟨nwp70_0, List.forall_mem_cons.mpr ⟨nwp70_1, (fun _ h => by cases h)⟩⟩
def nwT71 : List (Nat × Nat) := []
theorem nwo71 : ∀ e ∈ nwT71, xNw 71 e.1 e.2 := (fun _ h => by cases h)
def nwL (oc : Nat) : List (Nat × Nat) := match oc with
  | 0 => nwT0
  | 1 => nwT1
  | 2 => nwT2
  | 3 => nwT3
  | 4 => nwT4
  | 5 => nwT5
  | 6 => nwT6
  | 7 => nwT7
  | 8 => nwT8
  | 9 => nwT9
  | 10 => nwT10
  | 11 => nwT11
  | 12 => nwT12
  | 13 => nwT13
  | 14 => nwT14
  | 15 => nwT15
  | 16 => nwT16
  | 17 => nwT17
  | 18 => nwT18
  | 19 => nwT19
  | 20 => nwT20
  | 21 => nwT21
  | 22 => nwT22
  | 23 => nwT23
  | 24 => nwT24
  | 25 => nwT25
  | 26 => nwT26
  | 27 => nwT27
  | 28 => nwT28
  | 29 => nwT29
  | 30 => nwT30
  | 31 => nwT31
  | 32 => nwT32
  | 33 => nwT33
  | 34 => nwT34
  | 35 => nwT35
  | 36 => nwT36
  | 37 => nwT37
  | 38 => nwT38
  | 39 => nwT39
  | 40 => nwT40
  | 41 => nwT41
  | 42 => nwT42
  | 43 => nwT43
  | 44 => nwT44
  | 45 => nwT45
  | 46 => nwT46
  | 47 => nwT47
  | 48 => nwT48
  | 49 => nwT49
  | 50 => nwT50
  | 51 => nwT51
  | 52 => nwT52
  | 53 => nwT53
  | 54 => nwT54
  | 55 => nwT55
  | 56 => nwT56
  | 57 => nwT57
  | 58 => nwT58
  | 59 => nwT59
  | 60 => nwT60
  | 61 => nwT61
  | 62 => nwT62
  | 63 => nwT63
  | 64 => nwT64
  | 65 => nwT65
  | 66 => nwT66
  | 67 => nwT67
  | 68 => nwT68
  | 69 => nwT69
  | 70 => nwT70
  | 71 => nwT71
  | _ => []
theorem nwL_ok : ∀ oc, ∀ e ∈ nwL oc, xNw oc e.1 e.2 := by
  intro oc
  unfold nwL
  split
  · exact nwo0
  · exact nwo1
  · exact nwo2
  · exact nwo3
  · exact nwo4
  · exact nwo5
  · exact nwo6
  · exact nwo7
  · exact nwo8
  · exact nwo9
  · exact nwo10
  · exact nwo11
  · exact nwo12
  · exact nwo13
  · exact nwo14
  · exact nwo15
  · exact nwo16
  · exact nwo17
  · exact nwo18
  · exact nwo19
  · exact nwo20
  · exact nwo21
  · exact nwo22
  · exact nwo23
  · exact nwo24
  · exact nwo25
  · exact nwo26
  · exact nwo27
  · exact nwo28
  · exact nwo29
  · exact nwo30
  · exact nwo31
  · exact nwo32
  · exact nwo33
  · exact nwo34
  · exact nwo35
  · exact nwo36
  · exact nwo37
  · exact nwo38
  · exact nwo39
  · exact nwo40
  · exact nwo41
  · exact nwo42
  · exact nwo43
  · exact nwo44
  · exact nwo45
  · exact nwo46
  · exact nwo47
  · exact nwo48
  · exact nwo49
  · exact nwo50
  · exact nwo51
  · exact nwo52
  · exact nwo53
  · exact nwo54
  · exact nwo55
  · exact nwo56
  · exact nwo57
  · exact nwo58
  · exact nwo59
  · exact nwo60
  · exact nwo61
  · exact nwo62
  · exact nwo63
  · exact nwo64
  · exact nwo65
  · exact nwo66
  · exact nwo67
  · exact nwo68
  · exact nwo69
  · exact nwo70
  · exact nwo71
  · intro e h; cases h
def xAn (oc idx k : Nat) : Prop := ∃ C : String, k ≤ 6 ∧ kty k = some (.object C) ∧ Cond.classLink (ocN oc) idx C ∈ lw_all ∧ Cond.arrayOver (.object C) ∈ lw_tbl
def anT0 : List (Nat × Nat) := []
theorem ano0 : ∀ e ∈ anT0, xAn 0 e.1 e.2 := (fun _ h => by cases h)
def anT1 : List (Nat × Nat) := []
theorem ano1 : ∀ e ∈ anT1, xAn 1 e.1 e.2 := (fun _ h => by cases h)
def anT2 : List (Nat × Nat) := []
theorem ano2 : ∀ e ∈ anT2, xAn 2 e.1 e.2 := (fun _ h => by cases h)
def anT3 : List (Nat × Nat) := []
theorem ano3 : ∀ e ∈ anT3, xAn 3 e.1 e.2 := (fun _ h => by cases h)
def anT4 : List (Nat × Nat) := []
theorem ano4 : ∀ e ∈ anT4, xAn 4 e.1 e.2 := (fun _ h => by cases h)
def anT5 : List (Nat × Nat) := []
theorem ano5 : ∀ e ∈ anT5, xAn 5 e.1 e.2 := (fun _ h => by cases h)
def anT6 : List (Nat × Nat) := []
theorem ano6 : ∀ e ∈ anT6, xAn 6 e.1 e.2 := (fun _ h => by cases h)
def anT7 : List (Nat × Nat) := []
theorem ano7 : ∀ e ∈ anT7, xAn 7 e.1 e.2 := (fun _ h => by cases h)
def anT8 : List (Nat × Nat) := []
theorem ano8 : ∀ e ∈ anT8, xAn 8 e.1 e.2 := (fun _ h => by cases h)
def anT9 : List (Nat × Nat) := []
theorem ano9 : ∀ e ∈ anT9, xAn 9 e.1 e.2 := (fun _ h => by cases h)
def anT10 : List (Nat × Nat) := []
theorem ano10 : ∀ e ∈ anT10, xAn 10 e.1 e.2 := (fun _ h => by cases h)
def anT11 : List (Nat × Nat) := []
theorem ano11 : ∀ e ∈ anT11, xAn 11 e.1 e.2 := (fun _ h => by cases h)
def anT12 : List (Nat × Nat) := []
theorem ano12 : ∀ e ∈ anT12, xAn 12 e.1 e.2 := (fun _ h => by cases h)
def anT13 : List (Nat × Nat) := []
theorem ano13 : ∀ e ∈ anT13, xAn 13 e.1 e.2 := (fun _ h => by cases h)
def anT14 : List (Nat × Nat) := []
theorem ano14 : ∀ e ∈ anT14, xAn 14 e.1 e.2 := (fun _ h => by cases h)
def anT15 : List (Nat × Nat) := []
theorem ano15 : ∀ e ∈ anT15, xAn 15 e.1 e.2 := (fun _ h => by cases h)
def anT16 : List (Nat × Nat) := []
theorem ano16 : ∀ e ∈ anT16, xAn 16 e.1 e.2 := (fun _ h => by cases h)
def anT17 : List (Nat × Nat) := []
theorem ano17 : ∀ e ∈ anT17, xAn 17 e.1 e.2 := (fun _ h => by cases h)
def anT18 : List (Nat × Nat) := []
theorem ano18 : ∀ e ∈ anT18, xAn 18 e.1 e.2 := (fun _ h => by cases h)
def anT19 : List (Nat × Nat) := []
theorem ano19 : ∀ e ∈ anT19, xAn 19 e.1 e.2 := (fun _ h => by cases h)
def anT20 : List (Nat × Nat) := []
theorem ano20 : ∀ e ∈ anT20, xAn 20 e.1 e.2 := (fun _ h => by cases h)
def anT21 : List (Nat × Nat) := []
theorem ano21 : ∀ e ∈ anT21, xAn 21 e.1 e.2 := (fun _ h => by cases h)
def anT22 : List (Nat × Nat) := []
theorem ano22 : ∀ e ∈ anT22, xAn 22 e.1 e.2 := (fun _ h => by cases h)
def anT23 : List (Nat × Nat) := []
theorem ano23 : ∀ e ∈ anT23, xAn 23 e.1 e.2 := (fun _ h => by cases h)
def anT24 : List (Nat × Nat) := []
theorem ano24 : ∀ e ∈ anT24, xAn 24 e.1 e.2 := (fun _ h => by cases h)
def anT25 : List (Nat × Nat) := []
theorem ano25 : ∀ e ∈ anT25, xAn 25 e.1 e.2 := (fun _ h => by cases h)
def anT26 : List (Nat × Nat) := []
theorem ano26 : ∀ e ∈ anT26, xAn 26 e.1 e.2 := (fun _ h => by cases h)
def anT27 : List (Nat × Nat) := []
theorem ano27 : ∀ e ∈ anT27, xAn 27 e.1 e.2 := (fun _ h => by cases h)
def anT28 : List (Nat × Nat) := []
theorem ano28 : ∀ e ∈ anT28, xAn 28 e.1 e.2 := (fun _ h => by cases h)
def anT29 : List (Nat × Nat) := []
theorem ano29 : ∀ e ∈ anT29, xAn 29 e.1 e.2 := (fun _ h => by cases h)
def anT30 : List (Nat × Nat) := []
theorem ano30 : ∀ e ∈ anT30, xAn 30 e.1 e.2 := (fun _ h => by cases h)
def anT31 : List (Nat × Nat) := []
theorem ano31 : ∀ e ∈ anT31, xAn 31 e.1 e.2 := (fun _ h => by cases h)
def anT32 : List (Nat × Nat) := []
theorem ano32 : ∀ e ∈ anT32, xAn 32 e.1 e.2 := (fun _ h => by cases h)
def anT33 : List (Nat × Nat) := []
theorem ano33 : ∀ e ∈ anT33, xAn 33 e.1 e.2 := (fun _ h => by cases h)
def anT34 : List (Nat × Nat) := [(24, 5)]
theorem anp34_0 : xAn 34 24 5 := ⟨_, by decide, rfl, q2776, q2791⟩
theorem ano34 : ∀ e ∈ anT34, xAn 34 e.1 e.2 := List.forall_mem_cons.mpr ⟨anp34_0, (fun _ h => by cases h)⟩
def anT35 : List (Nat × Nat) := []
theorem ano35 : ∀ e ∈ anT35, xAn 35 e.1 e.2 := (fun _ h => by cases h)
def anT36 : List (Nat × Nat) := [(24, 4)]
theorem anp36_0 : xAn 36 24 4 := ⟨_, by decide, rfl, q2725, q2726⟩
theorem ano36 : ∀ e ∈ anT36, xAn 36 e.1 e.2 := List.forall_mem_cons.mpr ⟨anp36_0, (fun _ h => by cases h)⟩
def anT37 : List (Nat × Nat) := []
theorem ano37 : ∀ e ∈ anT37, xAn 37 e.1 e.2 := (fun _ h => by cases h)
def anT38 : List (Nat × Nat) := []
theorem ano38 : ∀ e ∈ anT38, xAn 38 e.1 e.2 := (fun _ h => by cases h)
def anT39 : List (Nat × Nat) := []
theorem ano39 : ∀ e ∈ anT39, xAn 39 e.1 e.2 := (fun _ h => by cases h)
def anT40 : List (Nat × Nat) := []
theorem ano40 : ∀ e ∈ anT40, xAn 40 e.1 e.2 := (fun _ h => by cases h)
def anT41 : List (Nat × Nat) := []
theorem ano41 : ∀ e ∈ anT41, xAn 41 e.1 e.2 := (fun _ h => by cases h)
def anT42 : List (Nat × Nat) := []
theorem ano42 : ∀ e ∈ anT42, xAn 42 e.1 e.2 := (fun _ h => by cases h)
def anT43 : List (Nat × Nat) := []
theorem ano43 : ∀ e ∈ anT43, xAn 43 e.1 e.2 := (fun _ h => by cases h)
def anT44 : List (Nat × Nat) := []
theorem ano44 : ∀ e ∈ anT44, xAn 44 e.1 e.2 := (fun _ h => by cases h)
def anT45 : List (Nat × Nat) := []
theorem ano45 : ∀ e ∈ anT45, xAn 45 e.1 e.2 := (fun _ h => by cases h)
def anT46 : List (Nat × Nat) := []
theorem ano46 : ∀ e ∈ anT46, xAn 46 e.1 e.2 := (fun _ h => by cases h)
def anT47 : List (Nat × Nat) := []
theorem ano47 : ∀ e ∈ anT47, xAn 47 e.1 e.2 := (fun _ h => by cases h)
def anT48 : List (Nat × Nat) := []
theorem ano48 : ∀ e ∈ anT48, xAn 48 e.1 e.2 := (fun _ h => by cases h)
def anT49 : List (Nat × Nat) := []
theorem ano49 : ∀ e ∈ anT49, xAn 49 e.1 e.2 := (fun _ h => by cases h)
def anT50 : List (Nat × Nat) := []
theorem ano50 : ∀ e ∈ anT50, xAn 50 e.1 e.2 := (fun _ h => by cases h)
def anT51 : List (Nat × Nat) := []
theorem ano51 : ∀ e ∈ anT51, xAn 51 e.1 e.2 := (fun _ h => by cases h)
def anT52 : List (Nat × Nat) := []
theorem ano52 : ∀ e ∈ anT52, xAn 52 e.1 e.2 := (fun _ h => by cases h)
def anT53 : List (Nat × Nat) := []
theorem ano53 : ∀ e ∈ anT53, xAn 53 e.1 e.2 := (fun _ h => by cases h)
def anT54 : List (Nat × Nat) := []
theorem ano54 : ∀ e ∈ anT54, xAn 54 e.1 e.2 := (fun _ h => by cases h)
def anT55 : List (Nat × Nat) := []
theorem ano55 : ∀ e ∈ anT55, xAn 55 e.1 e.2 := (fun _ h => by cases h)
def anT56 : List (Nat × Nat) := []
theorem ano56 : ∀ e ∈ anT56, xAn 56 e.1 e.2 := (fun _ h => by cases h)
def anT57 : List (Nat × Nat) := []
theorem ano57 : ∀ e ∈ anT57, xAn 57 e.1 e.2 := (fun _ h => by cases h)
def anT58 : List (Nat × Nat) := []
theorem ano58 : ∀ e ∈ anT58, xAn 58 e.1 e.2 := (fun _ h => by cases h)
def anT59 : List (Nat × Nat) := []
theorem ano59 : ∀ e ∈ anT59, xAn 59 e.1 e.2 := (fun _ h => by cases h)
def anT60 : List (Nat × Nat) := [(7, 3)]
theorem anp60_0 : xAn 60 7 3 := ⟨_, by decide, rfl, q862, q859⟩
theorem ano60 : ∀ e ∈ anT60, xAn 60 e.1 e.2 := List.forall_mem_cons.mpr ⟨anp60_0, (fun _ h => by cases h)⟩
def anT61 : List (Nat × Nat) := []
theorem ano61 : ∀ e ∈ anT61, xAn 61 e.1 e.2 := (fun _ h => by cases h)
def anT62 : List (Nat × Nat) := [(2, 3)]
theorem anp62_0 : xAn 62 2 3 := ⟨_, by decide, rfl, q860, q859⟩
theorem ano62 : ∀ e ∈ anT62, xAn 62 e.1 e.2 := List.forall_mem_cons.mpr ⟨anp62_0, (fun _ h => by cases h)⟩
def anT63 : List (Nat × Nat) := [(163, 6)]
theorem anp63_0 : xAn 63 163 6 := ⟨_, by decide, rfl, q1820, q1821⟩
theorem ano63 : ∀ e ∈ anT63, xAn 63 e.1 e.2 := List.forall_mem_cons.mpr ⟨anp63_0, (fun _ h => by cases h)⟩
def anT64 : List (Nat × Nat) := []
theorem ano64 : ∀ e ∈ anT64, xAn 64 e.1 e.2 := (fun _ h => by cases h)
def anT65 : List (Nat × Nat) := []
theorem ano65 : ∀ e ∈ anT65, xAn 65 e.1 e.2 := (fun _ h => by cases h)
def anT66 : List (Nat × Nat) := []
theorem ano66 : ∀ e ∈ anT66, xAn 66 e.1 e.2 := (fun _ h => by cases h)
def anT67 : List (Nat × Nat) := []
theorem ano67 : ∀ e ∈ anT67, xAn 67 e.1 e.2 := (fun _ h => by cases h)
def anT68 : List (Nat × Nat) := []
theorem ano68 : ∀ e ∈ anT68, xAn 68 e.1 e.2 := (fun _ h => by cases h)
def anT69 : List (Nat × Nat) := []
theorem ano69 : ∀ e ∈ anT69, xAn 69 e.1 e.2 := (fun _ h => by cases h)
def anT70 : List (Nat × Nat) := []
theorem ano70 : ∀ e ∈ anT70, xAn 70 e.1 e.2 := (fun _ h => by cases h)
def anT71 : List (Nat × Nat) := []
theorem ano71 : ∀ e ∈ anT71, xAn 71 e.1 e.2 := (fun _ h => by cases h)
def anL (oc : Nat) : List (Nat × Nat) := match oc with
  | 0 => anT0
  | 1 => anT1
  | 2 => anT2
  | 3 => anT3
  | 4 => anT4
  | 5 => anT5
  | 6 => anT6
  | 7 => anT7
  | 8 => anT8
  | 9 => anT9
  | 10 => anT10
  | 11 => anT11
  | 12 => anT12
  | 13 => anT13
  | 14 => anT14
  | 15 => anT15
  | 16 => anT16
  | 17 => anT17
  | 18 => anT18
  | 19 => anT19
  | 20 => anT20
  | 21 => anT21
  | 22 => anT22
  | 23 => anT23
  | 24 => anT24
  | 25 => anT25
  | 26 => anT26
  | 27 => anT27
  | 28 => anT28
  | 29 => anT29
  | 30 => anT30
  | 31 => anT31
  | 32 => anT32
  | 33 => anT33
  | 34 => anT34
  | 35 => anT35
  | 36 => anT36
  | 37 => anT37
  | 38 => anT38
  | 39 => anT39
  | 40 => anT40
  | 41 => anT41
  | 42 => anT42
  | 43 => anT43
  | 44 => anT44
  | 45 => anT45
  | 46 => anT46
  | 47 => anT47
  | 48 => anT48
  | 49 => anT49
  | 50 => anT50
  | 51 => anT51
  | 52 => anT52
  | 53 => anT53
  | 54 => anT54
  | 55 => anT55
  | 56 => anT56
  | 57 => anT57
  | 58 => anT58
  | 59 => anT59
  | 60 => anT60
  | 61 => anT61
  | 62 => anT62
  | 63 => anT63
  | 64 => anT64
  | 65 => anT65
  | 66 => anT66
  | 67 => anT67
  | 68 => anT68
  | 69 => anT69
  | 70 => anT70
  | 71 => anT71
  | _ => []
theorem anL_ok : ∀ oc, ∀ e ∈ anL oc, xAn oc e.1 e.2 := by
  intro oc
  unfold anL
  split
  · exact ano0
  · exact ano1
  · exact ano2
  · exact ano3
  · exact ano4
  · exact ano5
  · exact ano6
  · exact ano7
  · exact ano8
  · exact ano9
  · exact ano10
  · exact ano11
  · exact ano12
  · exact ano13
  · exact ano14
  · exact ano15
  · exact ano16
  · exact ano17
  · exact ano18
  · exact ano19
  · exact ano20
  · exact ano21
  · exact ano22
  · exact ano23
  · exact ano24
  · exact ano25
  · exact ano26
  · exact ano27
  · exact ano28
  · exact ano29
  · exact ano30
  · exact ano31
  · exact ano32
  · exact ano33
  · exact ano34
  · exact ano35
  · exact ano36
  · exact ano37
  · exact ano38
  · exact ano39
  · exact ano40
  · exact ano41
  · exact ano42
  · exact ano43
  · exact ano44
  · exact ano45
  · exact ano46
  · exact ano47
  · exact ano48
  · exact ano49
  · exact ano50
  · exact ano51
  · exact ano52
  · exact ano53
  · exact ano54
  · exact ano55
  · exact ano56
  · exact ano57
  · exact ano58
  · exact ano59
  · exact ano60
  · exact ano61
  · exact ano62
  · exact ano63
  · exact ano64
  · exact ano65
  · exact ano66
  · exact ano67
  · exact ano68
  · exact ano69
  · exact ano70
  · exact ano71
  · intro e h; cases h
def NC : List (String × String) := [("java/util/HashMap$Node", "java/util/HashMap$TreeNode"), ("java/lang/IllegalArgumentException", "java/lang/IndexOutOfBoundsException")]
def xCk (oc idx ci : Nat) (b : Bool) : Prop := ∃ (nm C : String) (T : u_T) (N : Nat), CL[ci]? = some (C, T, N) ∧ Cond.classLink (ocN oc) idx nm ∈ lw_all ∧ ((C = nm ∧ b = true) ∨ (b = true ∧ Cond.castable C nm ∈ lw_tbl) ∨ (b = false ∧ (C, nm) ∈ NC))
def ckT0 : List (Nat × Nat × Bool) := [(170, 20, true), (185, 15, true), (257, 23, true)]
theorem ckp0_0 : xCk 0 170 20 true := ⟨_, _, _, _, rfl, q2409, Or.inl ⟨rfl, rfl⟩⟩
theorem ckp0_1 : xCk 0 185 15 true := ⟨_, _, _, _, rfl, q2477, Or.inl ⟨rfl, rfl⟩⟩
theorem ckp0_2 : xCk 0 257 23 true := ⟨_, _, _, _, rfl, q2484, Or.inl ⟨rfl, rfl⟩⟩
theorem cko0 : ∀ e ∈ ckT0, xCk 0 e.1 e.2.1 e.2.2 := List.forall_mem_cons.mpr ⟨ckp0_0, List.forall_mem_cons.mpr ⟨ckp0_1, List.forall_mem_cons.mpr ⟨ckp0_2, (fun _ h => by cases h)⟩⟩⟩
def ckT1 : List (Nat × Nat × Bool) := []
theorem cko1 : ∀ e ∈ ckT1, xCk 1 e.1 e.2.1 e.2.2 := (fun _ h => by cases h)
def ckT2 : List (Nat × Nat × Bool) := []
theorem cko2 : ∀ e ∈ ckT2, xCk 2 e.1 e.2.1 e.2.2 := (fun _ h => by cases h)
def ckT3 : List (Nat × Nat × Bool) := [(28, 20, true)]
theorem ckp3_0 : xCk 3 28 20 true := ⟨_, _, _, _, rfl, q1732, Or.inl ⟨rfl, rfl⟩⟩
theorem cko3 : ∀ e ∈ ckT3, xCk 3 e.1 e.2.1 e.2.2 := List.forall_mem_cons.mpr ⟨ckp3_0, (fun _ h => by cases h)⟩
def ckT4 : List (Nat × Nat × Bool) := [(19, 13, true), (19, 16, true), (19, 17, true), (19, 18, true), (19, 19, true)]
theorem ckp4_0 : xCk 4 19 13 true := ⟨_, _, _, _, rfl, q2277, Or.inr (Or.inl ⟨rfl, q3323⟩)⟩
theorem ckp4_1 : xCk 4 19 16 true := ⟨_, _, _, _, rfl, q2277, Or.inr (Or.inl ⟨rfl, q3321⟩)⟩
theorem ckp4_2 : xCk 4 19 17 true := ⟨_, _, _, _, rfl, q2277, Or.inr (Or.inl ⟨rfl, q3320⟩)⟩
theorem ckp4_3 : xCk 4 19 18 true := ⟨_, _, _, _, rfl, q2277, Or.inr (Or.inl ⟨rfl, q3324⟩)⟩
theorem ckp4_4 : xCk 4 19 19 true := ⟨_, _, _, _, rfl, q2277, Or.inr (Or.inl ⟨rfl, q3322⟩)⟩
theorem cko4 : ∀ e ∈ ckT4, xCk 4 e.1 e.2.1 e.2.2 := List.forall_mem_cons.mpr ⟨ckp4_0, List.forall_mem_cons.mpr ⟨ckp4_1, List.forall_mem_cons.mpr ⟨ckp4_2, List.forall_mem_cons.mpr ⟨ckp4_3, List.forall_mem_cons.mpr ⟨ckp4_4, (fun _ h => by cases h)⟩⟩⟩⟩⟩
def ckT5 : List (Nat × Nat × Bool) := [(35, 20, true)]
theorem ckp5_0 : xCk 5 35 20 true := ⟨_, _, _, _, rfl, q2284, Or.inl ⟨rfl, rfl⟩⟩
theorem cko5 : ∀ e ∈ ckT5, xCk 5 e.1 e.2.1 e.2.2 := List.forall_mem_cons.mpr ⟨ckp5_0, (fun _ h => by cases h)⟩
def ckT6 : List (Nat × Nat × Bool) := [(32, 20, true)]
theorem ckp6_0 : xCk 6 32 20 true := ⟨_, _, _, _, rfl, q2290, Or.inl ⟨rfl, rfl⟩⟩
theorem cko6 : ∀ e ∈ ckT6, xCk 6 e.1 e.2.1 e.2.2 := List.forall_mem_cons.mpr ⟨ckp6_0, (fun _ h => by cases h)⟩
def ckT7 : List (Nat × Nat × Bool) := []
theorem cko7 : ∀ e ∈ ckT7, xCk 7 e.1 e.2.1 e.2.2 := (fun _ h => by cases h)
def ckT8 : List (Nat × Nat × Bool) := []
theorem cko8 : ∀ e ∈ ckT8, xCk 8 e.1 e.2.1 e.2.2 := (fun _ h => by cases h)
def ckT9 : List (Nat × Nat × Bool) := [(28, 20, true)]
theorem ckp9_0 : xCk 9 28 20 true := ⟨_, _, _, _, rfl, q2232, Or.inl ⟨rfl, rfl⟩⟩
theorem cko9 : ∀ e ∈ ckT9, xCk 9 e.1 e.2.1 e.2.2 := List.forall_mem_cons.mpr ⟨ckp9_0, (fun _ h => by cases h)⟩
def ckT10 : List (Nat × Nat × Bool) := []
theorem cko10 : ∀ e ∈ ckT10, xCk 10 e.1 e.2.1 e.2.2 := (fun _ h => by cases h)
def ckT11 : List (Nat × Nat × Bool) := []
theorem cko11 : ∀ e ∈ ckT11, xCk 11 e.1 e.2.1 e.2.2 := (fun _ h => by cases h)
def ckT12 : List (Nat × Nat × Bool) := [(42, 6, true), (108, 15, true)]
theorem ckp12_0 : xCk 12 42 6 true := ⟨_, _, _, _, rfl, q955, Or.inl ⟨rfl, rfl⟩⟩
theorem ckp12_1 : xCk 12 108 15 true := ⟨_, _, _, _, rfl, q1560, Or.inl ⟨rfl, rfl⟩⟩
theorem cko12 : ∀ e ∈ ckT12, xCk 12 e.1 e.2.1 e.2.2 := List.forall_mem_cons.mpr ⟨ckp12_0, List.forall_mem_cons.mpr ⟨ckp12_1, (fun _ h => by cases h)⟩⟩
def ckT13 : List (Nat × Nat × Bool) := []
theorem cko13 : ∀ e ∈ ckT13, xCk 13 e.1 e.2.1 e.2.2 := (fun _ h => by cases h)
def ckT14 : List (Nat × Nat × Bool) := [(28, 24, true), (28, 25, true), (28, 26, true), (28, 27, true), (28, 28, true)]
theorem ckp14_0 : xCk 14 28 24 true := ⟨_, _, _, _, rfl, q2258, Or.inr (Or.inl ⟨rfl, q2250⟩)⟩
theorem ckp14_1 : xCk 14 28 25 true := ⟨_, _, _, _, rfl, q2258, Or.inr (Or.inl ⟨rfl, q2217⟩)⟩
theorem ckp14_2 : xCk 14 28 26 true := ⟨_, _, _, _, rfl, q2258, Or.inr (Or.inl ⟨rfl, q2225⟩)⟩
theorem ckp14_3 : xCk 14 28 27 true := ⟨_, _, _, _, rfl, q2258, Or.inr (Or.inl ⟨rfl, q2207⟩)⟩
theorem ckp14_4 : xCk 14 28 28 true := ⟨_, _, _, _, rfl, q2258, Or.inr (Or.inl ⟨rfl, q2261⟩)⟩
theorem cko14 : ∀ e ∈ ckT14, xCk 14 e.1 e.2.1 e.2.2 := List.forall_mem_cons.mpr ⟨ckp14_0, List.forall_mem_cons.mpr ⟨ckp14_1, List.forall_mem_cons.mpr ⟨ckp14_2, List.forall_mem_cons.mpr ⟨ckp14_3, List.forall_mem_cons.mpr ⟨ckp14_4, (fun _ h => by cases h)⟩⟩⟩⟩⟩
def ckT15 : List (Nat × Nat × Bool) := []
theorem cko15 : ∀ e ∈ ckT15, xCk 15 e.1 e.2.1 e.2.2 := (fun _ h => by cases h)
def ckT16 : List (Nat × Nat × Bool) := []
theorem cko16 : ∀ e ∈ ckT16, xCk 16 e.1 e.2.1 e.2.2 := (fun _ h => by cases h)
def ckT17 : List (Nat × Nat × Bool) := []
theorem cko17 : ∀ e ∈ ckT17, xCk 17 e.1 e.2.1 e.2.2 := (fun _ h => by cases h)
def ckT18 : List (Nat × Nat × Bool) := []
theorem cko18 : ∀ e ∈ ckT18, xCk 18 e.1 e.2.1 e.2.2 := (fun _ h => by cases h)
def ckT19 : List (Nat × Nat × Bool) := []
theorem cko19 : ∀ e ∈ ckT19, xCk 19 e.1 e.2.1 e.2.2 := (fun _ h => by cases h)
def ckT20 : List (Nat × Nat × Bool) := []
theorem cko20 : ∀ e ∈ ckT20, xCk 20 e.1 e.2.1 e.2.2 := (fun _ h => by cases h)
def ckT21 : List (Nat × Nat × Bool) := []
theorem cko21 : ∀ e ∈ ckT21, xCk 21 e.1 e.2.1 e.2.2 := (fun _ h => by cases h)
def ckT22 : List (Nat × Nat × Bool) := []
theorem cko22 : ∀ e ∈ ckT22, xCk 22 e.1 e.2.1 e.2.2 := (fun _ h => by cases h)
def ckT23 : List (Nat × Nat × Bool) := [(106, 23, true), (55, 20, true)]
theorem ckp23_0 : xCk 23 106 23 true := ⟨_, _, _, _, rfl, q2202, Or.inl ⟨rfl, rfl⟩⟩
theorem ckp23_1 : xCk 23 55 20 true := ⟨_, _, _, _, rfl, q2350, Or.inl ⟨rfl, rfl⟩⟩
theorem cko23 : ∀ e ∈ ckT23, xCk 23 e.1 e.2.1 e.2.2 := List.forall_mem_cons.mpr ⟨ckp23_0, List.forall_mem_cons.mpr ⟨ckp23_1, (fun _ h => by cases h)⟩⟩
def ckT24 : List (Nat × Nat × Bool) := [(29, 15, true)]
theorem ckp24_0 : xCk 24 29 15 true := ⟨_, _, _, _, rfl, q2002, Or.inl ⟨rfl, rfl⟩⟩
theorem cko24 : ∀ e ∈ ckT24, xCk 24 e.1 e.2.1 e.2.2 := List.forall_mem_cons.mpr ⟨ckp24_0, (fun _ h => by cases h)⟩
def ckT25 : List (Nat × Nat × Bool) := []
theorem cko25 : ∀ e ∈ ckT25, xCk 25 e.1 e.2.1 e.2.2 := (fun _ h => by cases h)
def ckT26 : List (Nat × Nat × Bool) := []
theorem cko26 : ∀ e ∈ ckT26, xCk 26 e.1 e.2.1 e.2.2 := (fun _ h => by cases h)
def ckT27 : List (Nat × Nat × Bool) := []
theorem cko27 : ∀ e ∈ ckT27, xCk 27 e.1 e.2.1 e.2.2 := (fun _ h => by cases h)
def ckT28 : List (Nat × Nat × Bool) := []
theorem cko28 : ∀ e ∈ ckT28, xCk 28 e.1 e.2.1 e.2.2 := (fun _ h => by cases h)
def ckT29 : List (Nat × Nat × Bool) := []
theorem cko29 : ∀ e ∈ ckT29, xCk 29 e.1 e.2.1 e.2.2 := (fun _ h => by cases h)
def ckT30 : List (Nat × Nat × Bool) := []
theorem cko30 : ∀ e ∈ ckT30, xCk 30 e.1 e.2.1 e.2.2 := (fun _ h => by cases h)
def ckT31 : List (Nat × Nat × Bool) := []
theorem cko31 : ∀ e ∈ ckT31, xCk 31 e.1 e.2.1 e.2.2 := (fun _ h => by cases h)
def ckT32 : List (Nat × Nat × Bool) := [(19, 20, true)]
theorem ckp32_0 : xCk 32 19 20 true := ⟨_, _, _, _, rfl, q1708, Or.inl ⟨rfl, rfl⟩⟩
theorem cko32 : ∀ e ∈ ckT32, xCk 32 e.1 e.2.1 e.2.2 := List.forall_mem_cons.mpr ⟨ckp32_0, (fun _ h => by cases h)⟩
def ckT33 : List (Nat × Nat × Bool) := []
theorem cko33 : ∀ e ∈ ckT33, xCk 33 e.1 e.2.1 e.2.2 := (fun _ h => by cases h)
def ckT34 : List (Nat × Nat × Bool) := []
theorem cko34 : ∀ e ∈ ckT34, xCk 34 e.1 e.2.1 e.2.2 := (fun _ h => by cases h)
def ckT35 : List (Nat × Nat × Bool) := []
theorem cko35 : ∀ e ∈ ckT35, xCk 35 e.1 e.2.1 e.2.2 := (fun _ h => by cases h)
def ckT36 : List (Nat × Nat × Bool) := []
theorem cko36 : ∀ e ∈ ckT36, xCk 36 e.1 e.2.1 e.2.2 := (fun _ h => by cases h)
def ckT37 : List (Nat × Nat × Bool) := []
theorem cko37 : ∀ e ∈ ckT37, xCk 37 e.1 e.2.1 e.2.2 := (fun _ h => by cases h)
def ckT38 : List (Nat × Nat × Bool) := []
theorem cko38 : ∀ e ∈ ckT38, xCk 38 e.1 e.2.1 e.2.2 := (fun _ h => by cases h)
def ckT39 : List (Nat × Nat × Bool) := []
theorem cko39 : ∀ e ∈ ckT39, xCk 39 e.1 e.2.1 e.2.2 := (fun _ h => by cases h)
def ckT40 : List (Nat × Nat × Bool) := [(2, 36, true), (2, 37, true), (2, 38, true), (2, 39, true), (2, 40, true), (2, 41, true), (2, 42, true), (2, 43, true), (2, 44, true), (2, 45, true), (2, 46, true), (2, 47, true), (2, 48, true), (2, 49, true)]
theorem ckp40_0 : xCk 40 2 36 true := ⟨_, _, _, _, rfl, q1230, Or.inr (Or.inl ⟨rfl, q3306⟩)⟩
theorem ckp40_1 : xCk 40 2 37 true := ⟨_, _, _, _, rfl, q1230, Or.inr (Or.inl ⟨rfl, q3307⟩)⟩
theorem ckp40_2 : xCk 40 2 38 true := ⟨_, _, _, _, rfl, q1230, Or.inr (Or.inl ⟨rfl, q3308⟩)⟩
theorem ckp40_3 : xCk 40 2 39 true := ⟨_, _, _, _, rfl, q1230, Or.inr (Or.inl ⟨rfl, q3310⟩)⟩
theorem ckp40_4 : xCk 40 2 40 true := ⟨_, _, _, _, rfl, q1230, Or.inr (Or.inl ⟨rfl, q3311⟩)⟩
theorem ckp40_5 : xCk 40 2 41 true := ⟨_, _, _, _, rfl, q1230, Or.inr (Or.inl ⟨rfl, q3312⟩)⟩
theorem ckp40_6 : xCk 40 2 42 true := ⟨_, _, _, _, rfl, q1230, Or.inr (Or.inl ⟨rfl, q3313⟩)⟩
theorem ckp40_7 : xCk 40 2 43 true := ⟨_, _, _, _, rfl, q1230, Or.inr (Or.inl ⟨rfl, q3314⟩)⟩
theorem ckp40_8 : xCk 40 2 44 true := ⟨_, _, _, _, rfl, q1230, Or.inr (Or.inl ⟨rfl, q3315⟩)⟩
theorem ckp40_9 : xCk 40 2 45 true := ⟨_, _, _, _, rfl, q1230, Or.inr (Or.inl ⟨rfl, q3317⟩)⟩
theorem ckp40_10 : xCk 40 2 46 true := ⟨_, _, _, _, rfl, q1230, Or.inr (Or.inl ⟨rfl, q3318⟩)⟩
theorem ckp40_11 : xCk 40 2 47 true := ⟨_, _, _, _, rfl, q1230, Or.inr (Or.inl ⟨rfl, q3319⟩)⟩
theorem ckp40_12 : xCk 40 2 48 true := ⟨_, _, _, _, rfl, q1230, Or.inr (Or.inl ⟨rfl, q3309⟩)⟩
theorem ckp40_13 : xCk 40 2 49 true := ⟨_, _, _, _, rfl, q1230, Or.inr (Or.inl ⟨rfl, q3316⟩)⟩
theorem cko40 : ∀ e ∈ ckT40, xCk 40 e.1 e.2.1 e.2.2 := List.forall_mem_cons.mpr ⟨ckp40_0, List.forall_mem_cons.mpr ⟨ckp40_1, List.forall_mem_cons.mpr ⟨ckp40_2, List.forall_mem_cons.mpr ⟨ckp40_3, List.forall_mem_cons.mpr ⟨ckp40_4, List.forall_mem_cons.mpr ⟨ckp40_5, List.forall_mem_cons.mpr ⟨ckp40_6, List.forall_mem_cons.mpr ⟨ckp40_7, List.forall_mem_cons.mpr ⟨ckp40_8, List.forall_mem_cons.mpr ⟨ckp40_9, List.forall_mem_cons.mpr ⟨ckp40_10, List.forall_mem_cons.mpr ⟨ckp40_11, List.forall_mem_cons.mpr ⟨ckp40_12, List.forall_mem_cons.mpr ⟨ckp40_13, (fun _ h => by cases h)⟩⟩⟩⟩⟩⟩⟩⟩⟩⟩⟩⟩⟩⟩
def ckT41 : List (Nat × Nat × Bool) := []
theorem cko41 : ∀ e ∈ ckT41, xCk 41 e.1 e.2.1 e.2.2 := (fun _ h => by cases h)
def ckT42 : List (Nat × Nat × Bool) := []
theorem cko42 : ∀ e ∈ ckT42, xCk 42 e.1 e.2.1 e.2.2 := (fun _ h => by cases h)
def ckT43 : List (Nat × Nat × Bool) := []
theorem cko43 : ∀ e ∈ ckT43, xCk 43 e.1 e.2.1 e.2.2 := (fun _ h => by cases h)
def ckT44 : List (Nat × Nat × Bool) := []
theorem cko44 : ∀ e ∈ ckT44, xCk 44 e.1 e.2.1 e.2.2 := (fun _ h => by cases h)
def ckT45 : List (Nat × Nat × Bool) := [(1, 15, true)]
theorem ckp45_0 : xCk 45 1 15 true := ⟨_, _, _, _, rfl, q1187, Or.inl ⟨rfl, rfl⟩⟩
theorem cko45 : ∀ e ∈ ckT45, xCk 45 e.1 e.2.1 e.2.2 := List.forall_mem_cons.mpr ⟨ckp45_0, (fun _ h => by cases h)⟩
def ckT46 : List (Nat × Nat × Bool) := []
theorem cko46 : ∀ e ∈ ckT46, xCk 46 e.1 e.2.1 e.2.2 := (fun _ h => by cases h)
def ckT47 : List (Nat × Nat × Bool) := []
theorem cko47 : ∀ e ∈ ckT47, xCk 47 e.1 e.2.1 e.2.2 := (fun _ h => by cases h)
def ckT48 : List (Nat × Nat × Bool) := []
theorem cko48 : ∀ e ∈ ckT48, xCk 48 e.1 e.2.1 e.2.2 := (fun _ h => by cases h)
def ckT49 : List (Nat × Nat × Bool) := []
theorem cko49 : ∀ e ∈ ckT49, xCk 49 e.1 e.2.1 e.2.2 := (fun _ h => by cases h)
def ckT50 : List (Nat × Nat × Bool) := []
theorem cko50 : ∀ e ∈ ckT50, xCk 50 e.1 e.2.1 e.2.2 := (fun _ h => by cases h)
def ckT51 : List (Nat × Nat × Bool) := [(10, 8, true)]
theorem ckp51_0 : xCk 51 10 8 true := ⟨_, _, _, _, rfl, q717, Or.inl ⟨rfl, rfl⟩⟩
theorem cko51 : ∀ e ∈ ckT51, xCk 51 e.1 e.2.1 e.2.2 := List.forall_mem_cons.mpr ⟨ckp51_0, (fun _ h => by cases h)⟩
def ckT52 : List (Nat × Nat × Bool) := [(24, 7, true)]
theorem ckp52_0 : xCk 52 24 7 true := ⟨_, _, _, _, rfl, q1470, Or.inl ⟨rfl, rfl⟩⟩
theorem cko52 : ∀ e ∈ ckT52, xCk 52 e.1 e.2.1 e.2.2 := List.forall_mem_cons.mpr ⟨ckp52_0, (fun _ h => by cases h)⟩
def ckT53 : List (Nat × Nat × Bool) := []
theorem cko53 : ∀ e ∈ ckT53, xCk 53 e.1 e.2.1 e.2.2 := (fun _ h => by cases h)
def ckT54 : List (Nat × Nat × Bool) := []
theorem cko54 : ∀ e ∈ ckT54, xCk 54 e.1 e.2.1 e.2.2 := (fun _ h => by cases h)
def ckT55 : List (Nat × Nat × Bool) := []
theorem cko55 : ∀ e ∈ ckT55, xCk 55 e.1 e.2.1 e.2.2 := (fun _ h => by cases h)
def ckT56 : List (Nat × Nat × Bool) := []
theorem cko56 : ∀ e ∈ ckT56, xCk 56 e.1 e.2.1 e.2.2 := (fun _ h => by cases h)
def ckT57 : List (Nat × Nat × Bool) := []
theorem cko57 : ∀ e ∈ ckT57, xCk 57 e.1 e.2.1 e.2.2 := (fun _ h => by cases h)
def ckT58 : List (Nat × Nat × Bool) := []
theorem cko58 : ∀ e ∈ ckT58, xCk 58 e.1 e.2.1 e.2.2 := (fun _ h => by cases h)
def ckT59 : List (Nat × Nat × Bool) := []
theorem cko59 : ∀ e ∈ ckT59, xCk 59 e.1 e.2.1 e.2.2 := (fun _ h => by cases h)
def ckT60 : List (Nat × Nat × Bool) := []
theorem cko60 : ∀ e ∈ ckT60, xCk 60 e.1 e.2.1 e.2.2 := (fun _ h => by cases h)
def ckT61 : List (Nat × Nat × Bool) := []
theorem cko61 : ∀ e ∈ ckT61, xCk 61 e.1 e.2.1 e.2.2 := (fun _ h => by cases h)
def ckT62 : List (Nat × Nat × Bool) := []
theorem cko62 : ∀ e ∈ ckT62, xCk 62 e.1 e.2.1 e.2.2 := (fun _ h => by cases h)
def ckT63 : List (Nat × Nat × Bool) := [(180, 21, false), (180, 22, true), (7, 7, true), (7, 8, true), (7, 15, true), (7, 36, true), (7, 37, true), (7, 38, true), (7, 39, true), (7, 40, true), (7, 41, true), (7, 42, true), (7, 43, true), (7, 44, true), (7, 45, true), (7, 46, true), (7, 47, true), (7, 48, true), (7, 49, true)]
theorem ckp63_0 : xCk 63 180 21 false := ⟨_, _, _, _, rfl, q1197, Or.inr (Or.inr ⟨rfl, by decide⟩)⟩
theorem ckp63_1 : xCk 63 180 22 true := ⟨_, _, _, _, rfl, q1197, Or.inl ⟨rfl, rfl⟩⟩
theorem ckp63_2 : xCk 63 7 7 true := ⟨_, _, _, _, rfl, q1214, Or.inr (Or.inl ⟨rfl, q1464⟩)⟩
theorem ckp63_3 : xCk 63 7 8 true := ⟨_, _, _, _, rfl, q1214, Or.inr (Or.inl ⟨rfl, q1320⟩)⟩
theorem ckp63_4 : xCk 63 7 15 true := ⟨_, _, _, _, rfl, q1214, Or.inr (Or.inl ⟨rfl, q1307⟩)⟩
theorem ckp63_5 : xCk 63 7 36 true := ⟨_, _, _, _, rfl, q1214, Or.inr (Or.inl ⟨rfl, q1224⟩)⟩
theorem ckp63_6 : xCk 63 7 37 true := ⟨_, _, _, _, rfl, q1214, Or.inr (Or.inl ⟨rfl, q1268⟩)⟩
theorem ckp63_7 : xCk 63 7 38 true := ⟨_, _, _, _, rfl, q1214, Or.inr (Or.inl ⟨rfl, q1271⟩)⟩
theorem ckp63_8 : xCk 63 7 39 true := ⟨_, _, _, _, rfl, q1214, Or.inr (Or.inl ⟨rfl, q1277⟩)⟩
theorem ckp63_9 : xCk 63 7 40 true := ⟨_, _, _, _, rfl, q1214, Or.inr (Or.inl ⟨rfl, q1280⟩)⟩
theorem ckp63_10 : xCk 63 7 41 true := ⟨_, _, _, _, rfl, q1214, Or.inr (Or.inl ⟨rfl, q1283⟩)⟩
theorem ckp63_11 : xCk 63 7 42 true := ⟨_, _, _, _, rfl, q1214, Or.inr (Or.inl ⟨rfl, q1286⟩)⟩
theorem ckp63_12 : xCk 63 7 43 true := ⟨_, _, _, _, rfl, q1214, Or.inr (Or.inl ⟨rfl, q1289⟩)⟩
theorem ckp63_13 : xCk 63 7 44 true := ⟨_, _, _, _, rfl, q1214, Or.inr (Or.inl ⟨rfl, q1292⟩)⟩
theorem ckp63_14 : xCk 63 7 45 true := ⟨_, _, _, _, rfl, q1214, Or.inr (Or.inl ⟨rfl, q1298⟩)⟩
theorem ckp63_15 : xCk 63 7 46 true := ⟨_, _, _, _, rfl, q1214, Or.inr (Or.inl ⟨rfl, q1301⟩)⟩
theorem ckp63_16 : xCk 63 7 47 true := ⟨_, _, _, _, rfl, q1214, Or.inr (Or.inl ⟨rfl, q1304⟩)⟩
theorem ckp63_17 : xCk 63 7 48 true := ⟨_, _, _, _, rfl, q1214, Or.inr (Or.inl ⟨rfl, q1274⟩)⟩
theorem ckp63_18 : xCk 63 7 49 true := ⟨_, _, _, _, rfl, q1214, Or.inr (Or.inl ⟨rfl, q1295⟩)⟩
theorem cko63 : ∀ e ∈ ckT63, xCk 63 e.1 e.2.1 e.2.2 := List.forall_mem_cons.mpr ⟨ckp63_0, List.forall_mem_cons.mpr ⟨ckp63_1, List.forall_mem_cons.mpr ⟨ckp63_2, List.forall_mem_cons.mpr ⟨ckp63_3, List.forall_mem_cons.mpr ⟨ckp63_4, List.forall_mem_cons.mpr ⟨ckp63_5, List.forall_mem_cons.mpr ⟨ckp63_6, List.forall_mem_cons.mpr ⟨ckp63_7, List.forall_mem_cons.mpr ⟨ckp63_8, List.forall_mem_cons.mpr ⟨ckp63_9, List.forall_mem_cons.mpr ⟨ckp63_10, List.forall_mem_cons.mpr ⟨ckp63_11, List.forall_mem_cons.mpr ⟨ckp63_12, List.forall_mem_cons.mpr ⟨ckp63_13, List.forall_mem_cons.mpr ⟨ckp63_14, List.forall_mem_cons.mpr ⟨ckp63_15, List.forall_mem_cons.mpr ⟨ckp63_16, List.forall_mem_cons.mpr ⟨ckp63_17, List.forall_mem_cons.mpr ⟨ckp63_18, (fun _ h => by cases h)⟩⟩⟩⟩⟩⟩⟩⟩⟩⟩⟩⟩⟩⟩⟩⟩⟩⟩⟩
def ckT64 : List (Nat × Nat × Bool) := []
theorem cko64 : ∀ e ∈ ckT64, xCk 64 e.1 e.2.1 e.2.2 := (fun _ h => by cases h)
def ckT65 : List (Nat × Nat × Bool) := [(10, 21, false), (10, 22, true)]
theorem ckp65_0 : xCk 65 10 21 false := ⟨_, _, _, _, rfl, q1826, Or.inr (Or.inr ⟨rfl, by decide⟩)⟩
theorem ckp65_1 : xCk 65 10 22 true := ⟨_, _, _, _, rfl, q1826, Or.inl ⟨rfl, rfl⟩⟩
theorem cko65 : ∀ e ∈ ckT65, xCk 65 e.1 e.2.1 e.2.2 := List.forall_mem_cons.mpr ⟨ckp65_0, List.forall_mem_cons.mpr ⟨ckp65_1, (fun _ h => by cases h)⟩⟩
def ckT66 : List (Nat × Nat × Bool) := []
theorem cko66 : ∀ e ∈ ckT66, xCk 66 e.1 e.2.1 e.2.2 := (fun _ h => by cases h)
def ckT67 : List (Nat × Nat × Bool) := []
theorem cko67 : ∀ e ∈ ckT67, xCk 67 e.1 e.2.1 e.2.2 := (fun _ h => by cases h)
def ckT68 : List (Nat × Nat × Bool) := []
theorem cko68 : ∀ e ∈ ckT68, xCk 68 e.1 e.2.1 e.2.2 := (fun _ h => by cases h)
def ckT69 : List (Nat × Nat × Bool) := []
theorem cko69 : ∀ e ∈ ckT69, xCk 69 e.1 e.2.1 e.2.2 := (fun _ h => by cases h)
def ckT70 : List (Nat × Nat × Bool) := []
theorem cko70 : ∀ e ∈ ckT70, xCk 70 e.1 e.2.1 e.2.2 := (fun _ h => by cases h)
def ckT71 : List (Nat × Nat × Bool) := []
theorem cko71 : ∀ e ∈ ckT71, xCk 71 e.1 e.2.1 e.2.2 := (fun _ h => by cases h)
def ckL (oc : Nat) : List (Nat × Nat × Bool) := match oc with
  | 0 => ckT0
  | 1 => ckT1
  | 2 => ckT2
  | 3 => ckT3
  | 4 => ckT4
  | 5 => ckT5
  | 6 => ckT6
  | 7 => ckT7
  | 8 => ckT8
  | 9 => ckT9
  | 10 => ckT10
  | 11 => ckT11
  | 12 => ckT12
  | 13 => ckT13
  | 14 => ckT14
  | 15 => ckT15
  | 16 => ckT16
  | 17 => ckT17
  | 18 => ckT18
  | 19 => ckT19
  | 20 => ckT20
  | 21 => ckT21
  | 22 => ckT22
  | 23 => ckT23
  | 24 => ckT24
  | 25 => ckT25
  | 26 => ckT26
  | 27 => ckT27
  | 28 => ckT28
  | 29 => ckT29
  | 30 => ckT30
  | 31 => ckT31
  | 32 => ckT32
  | 33 => ckT33
  | 34 => ckT34
  | 35 => ckT35
  | 36 => ckT36
  | 37 => ckT37
  | 38 => ckT38
  | 39 => ckT39
  | 40 => ckT40
  | 41 => ckT41
  | 42 => ckT42
  | 43 => ckT43
  | 44 => ckT44
  | 45 => ckT45
  | 46 => ckT46
  | 47 => ckT47
  | 48 => ckT48
  | 49 => ckT49
  | 50 => ckT50
  | 51 => ckT51
  | 52 => ckT52
  | 53 => ckT53
  | 54 => ckT54
  | 55 => ckT55
  | 56 => ckT56
  | 57 => ckT57
  | 58 => ckT58
  | 59 => ckT59
  | 60 => ckT60
  | 61 => ckT61
  | 62 => ckT62
  | 63 => ckT63
  | 64 => ckT64
  | 65 => ckT65
  | 66 => ckT66
  | 67 => ckT67
  | 68 => ckT68
  | 69 => ckT69
  | 70 => ckT70
  | 71 => ckT71
  | _ => []
theorem ckL_ok : ∀ oc, ∀ e ∈ ckL oc, xCk oc e.1 e.2.1 e.2.2 := by
  intro oc
  unfold ckL
  split
  · exact cko0
  · exact cko1
  · exact cko2
  · exact cko3
  · exact cko4
  · exact cko5
  · exact cko6
  · exact cko7
  · exact cko8
  · exact cko9
  · exact cko10
  · exact cko11
  · exact cko12
  · exact cko13
  · exact cko14
  · exact cko15
  · exact cko16
  · exact cko17
  · exact cko18
  · exact cko19
  · exact cko20
  · exact cko21
  · exact cko22
  · exact cko23
  · exact cko24
  · exact cko25
  · exact cko26
  · exact cko27
  · exact cko28
  · exact cko29
  · exact cko30
  · exact cko31
  · exact cko32
  · exact cko33
  · exact cko34
  · exact cko35
  · exact cko36
  · exact cko37
  · exact cko38
  · exact cko39
  · exact cko40
  · exact cko41
  · exact cko42
  · exact cko43
  · exact cko44
  · exact cko45
  · exact cko46
  · exact cko47
  · exact cko48
  · exact cko49
  · exact cko50
  · exact cko51
  · exact cko52
  · exact cko53
  · exact cko54
  · exact cko55
  · exact cko56
  · exact cko57
  · exact cko58
  · exact cko59
  · exact cko60
  · exact cko61
  · exact cko62
  · exact cko63
  · exact cko64
  · exact cko65
  · exact cko66
  · exact cko67
  · exact cko68
  · exact cko69
  · exact cko70
  · exact cko71
  · intro e h; cases h
def xCa (oc idx k : Nat) : Prop := ∃ (nm : String) (ty : FieldType), k ≤ 6 ∧ kty k = some ty ∧ Cond.classLink (ocN oc) idx nm ∈ lw_all ∧ nm = "[" ++ ty.toString
def caT0 : List (Nat × Nat) := [(252, 0)]
theorem cap0_0 : xCa 0 252 0 := ⟨_, _, by decide, rfl, q2661, rfl⟩
theorem cao0 : ∀ e ∈ caT0, xCa 0 e.1 e.2 := List.forall_mem_cons.mpr ⟨cap0_0, (fun _ h => by cases h)⟩
def caT1 : List (Nat × Nat) := []
theorem cao1 : ∀ e ∈ caT1, xCa 1 e.1 e.2 := (fun _ h => by cases h)
def caT2 : List (Nat × Nat) := []
theorem cao2 : ∀ e ∈ caT2, xCa 2 e.1 e.2 := (fun _ h => by cases h)
def caT3 : List (Nat × Nat) := []
theorem cao3 : ∀ e ∈ caT3, xCa 3 e.1 e.2 := (fun _ h => by cases h)
def caT4 : List (Nat × Nat) := []
theorem cao4 : ∀ e ∈ caT4, xCa 4 e.1 e.2 := (fun _ h => by cases h)
def caT5 : List (Nat × Nat) := []
theorem cao5 : ∀ e ∈ caT5, xCa 5 e.1 e.2 := (fun _ h => by cases h)
def caT6 : List (Nat × Nat) := []
theorem cao6 : ∀ e ∈ caT6, xCa 6 e.1 e.2 := (fun _ h => by cases h)
def caT7 : List (Nat × Nat) := []
theorem cao7 : ∀ e ∈ caT7, xCa 7 e.1 e.2 := (fun _ h => by cases h)
def caT8 : List (Nat × Nat) := []
theorem cao8 : ∀ e ∈ caT8, xCa 8 e.1 e.2 := (fun _ h => by cases h)
def caT9 : List (Nat × Nat) := []
theorem cao9 : ∀ e ∈ caT9, xCa 9 e.1 e.2 := (fun _ h => by cases h)
def caT10 : List (Nat × Nat) := []
theorem cao10 : ∀ e ∈ caT10, xCa 10 e.1 e.2 := (fun _ h => by cases h)
def caT11 : List (Nat × Nat) := []
theorem cao11 : ∀ e ∈ caT11, xCa 11 e.1 e.2 := (fun _ h => by cases h)
def caT12 : List (Nat × Nat) := []
theorem cao12 : ∀ e ∈ caT12, xCa 12 e.1 e.2 := (fun _ h => by cases h)
def caT13 : List (Nat × Nat) := []
theorem cao13 : ∀ e ∈ caT13, xCa 13 e.1 e.2 := (fun _ h => by cases h)
def caT14 : List (Nat × Nat) := []
theorem cao14 : ∀ e ∈ caT14, xCa 14 e.1 e.2 := (fun _ h => by cases h)
def caT15 : List (Nat × Nat) := []
theorem cao15 : ∀ e ∈ caT15, xCa 15 e.1 e.2 := (fun _ h => by cases h)
def caT16 : List (Nat × Nat) := []
theorem cao16 : ∀ e ∈ caT16, xCa 16 e.1 e.2 := (fun _ h => by cases h)
def caT17 : List (Nat × Nat) := []
theorem cao17 : ∀ e ∈ caT17, xCa 17 e.1 e.2 := (fun _ h => by cases h)
def caT18 : List (Nat × Nat) := []
theorem cao18 : ∀ e ∈ caT18, xCa 18 e.1 e.2 := (fun _ h => by cases h)
def caT19 : List (Nat × Nat) := []
theorem cao19 : ∀ e ∈ caT19, xCa 19 e.1 e.2 := (fun _ h => by cases h)
def caT20 : List (Nat × Nat) := []
theorem cao20 : ∀ e ∈ caT20, xCa 20 e.1 e.2 := (fun _ h => by cases h)
def caT21 : List (Nat × Nat) := []
theorem cao21 : ∀ e ∈ caT21, xCa 21 e.1 e.2 := (fun _ h => by cases h)
def caT22 : List (Nat × Nat) := []
theorem cao22 : ∀ e ∈ caT22, xCa 22 e.1 e.2 := (fun _ h => by cases h)
def caT23 : List (Nat × Nat) := []
theorem cao23 : ∀ e ∈ caT23, xCa 23 e.1 e.2 := (fun _ h => by cases h)
def caT24 : List (Nat × Nat) := []
theorem cao24 : ∀ e ∈ caT24, xCa 24 e.1 e.2 := (fun _ h => by cases h)
def caT25 : List (Nat × Nat) := []
theorem cao25 : ∀ e ∈ caT25, xCa 25 e.1 e.2 := (fun _ h => by cases h)
def caT26 : List (Nat × Nat) := []
theorem cao26 : ∀ e ∈ caT26, xCa 26 e.1 e.2 := (fun _ h => by cases h)
def caT27 : List (Nat × Nat) := []
theorem cao27 : ∀ e ∈ caT27, xCa 27 e.1 e.2 := (fun _ h => by cases h)
def caT28 : List (Nat × Nat) := []
theorem cao28 : ∀ e ∈ caT28, xCa 28 e.1 e.2 := (fun _ h => by cases h)
def caT29 : List (Nat × Nat) := []
theorem cao29 : ∀ e ∈ caT29, xCa 29 e.1 e.2 := (fun _ h => by cases h)
def caT30 : List (Nat × Nat) := []
theorem cao30 : ∀ e ∈ caT30, xCa 30 e.1 e.2 := (fun _ h => by cases h)
def caT31 : List (Nat × Nat) := []
theorem cao31 : ∀ e ∈ caT31, xCa 31 e.1 e.2 := (fun _ h => by cases h)
def caT32 : List (Nat × Nat) := []
theorem cao32 : ∀ e ∈ caT32, xCa 32 e.1 e.2 := (fun _ h => by cases h)
def caT33 : List (Nat × Nat) := []
theorem cao33 : ∀ e ∈ caT33, xCa 33 e.1 e.2 := (fun _ h => by cases h)
def caT34 : List (Nat × Nat) := []
theorem cao34 : ∀ e ∈ caT34, xCa 34 e.1 e.2 := (fun _ h => by cases h)
def caT35 : List (Nat × Nat) := []
theorem cao35 : ∀ e ∈ caT35, xCa 35 e.1 e.2 := (fun _ h => by cases h)
def caT36 : List (Nat × Nat) := []
theorem cao36 : ∀ e ∈ caT36, xCa 36 e.1 e.2 := (fun _ h => by cases h)
def caT37 : List (Nat × Nat) := []
theorem cao37 : ∀ e ∈ caT37, xCa 37 e.1 e.2 := (fun _ h => by cases h)
def caT38 : List (Nat × Nat) := []
theorem cao38 : ∀ e ∈ caT38, xCa 38 e.1 e.2 := (fun _ h => by cases h)
def caT39 : List (Nat × Nat) := []
theorem cao39 : ∀ e ∈ caT39, xCa 39 e.1 e.2 := (fun _ h => by cases h)
def caT40 : List (Nat × Nat) := []
theorem cao40 : ∀ e ∈ caT40, xCa 40 e.1 e.2 := (fun _ h => by cases h)
def caT41 : List (Nat × Nat) := []
theorem cao41 : ∀ e ∈ caT41, xCa 41 e.1 e.2 := (fun _ h => by cases h)
def caT42 : List (Nat × Nat) := []
theorem cao42 : ∀ e ∈ caT42, xCa 42 e.1 e.2 := (fun _ h => by cases h)
def caT43 : List (Nat × Nat) := []
theorem cao43 : ∀ e ∈ caT43, xCa 43 e.1 e.2 := (fun _ h => by cases h)
def caT44 : List (Nat × Nat) := []
theorem cao44 : ∀ e ∈ caT44, xCa 44 e.1 e.2 := (fun _ h => by cases h)
def caT45 : List (Nat × Nat) := []
theorem cao45 : ∀ e ∈ caT45, xCa 45 e.1 e.2 := (fun _ h => by cases h)
def caT46 : List (Nat × Nat) := []
theorem cao46 : ∀ e ∈ caT46, xCa 46 e.1 e.2 := (fun _ h => by cases h)
def caT47 : List (Nat × Nat) := []
theorem cao47 : ∀ e ∈ caT47, xCa 47 e.1 e.2 := (fun _ h => by cases h)
def caT48 : List (Nat × Nat) := []
theorem cao48 : ∀ e ∈ caT48, xCa 48 e.1 e.2 := (fun _ h => by cases h)
def caT49 : List (Nat × Nat) := []
theorem cao49 : ∀ e ∈ caT49, xCa 49 e.1 e.2 := (fun _ h => by cases h)
def caT50 : List (Nat × Nat) := []
theorem cao50 : ∀ e ∈ caT50, xCa 50 e.1 e.2 := (fun _ h => by cases h)
def caT51 : List (Nat × Nat) := []
theorem cao51 : ∀ e ∈ caT51, xCa 51 e.1 e.2 := (fun _ h => by cases h)
def caT52 : List (Nat × Nat) := []
theorem cao52 : ∀ e ∈ caT52, xCa 52 e.1 e.2 := (fun _ h => by cases h)
def caT53 : List (Nat × Nat) := []
theorem cao53 : ∀ e ∈ caT53, xCa 53 e.1 e.2 := (fun _ h => by cases h)
def caT54 : List (Nat × Nat) := []
theorem cao54 : ∀ e ∈ caT54, xCa 54 e.1 e.2 := (fun _ h => by cases h)
def caT55 : List (Nat × Nat) := []
theorem cao55 : ∀ e ∈ caT55, xCa 55 e.1 e.2 := (fun _ h => by cases h)
def caT56 : List (Nat × Nat) := []
theorem cao56 : ∀ e ∈ caT56, xCa 56 e.1 e.2 := (fun _ h => by cases h)
def caT57 : List (Nat × Nat) := []
theorem cao57 : ∀ e ∈ caT57, xCa 57 e.1 e.2 := (fun _ h => by cases h)
def caT58 : List (Nat × Nat) := []
theorem cao58 : ∀ e ∈ caT58, xCa 58 e.1 e.2 := (fun _ h => by cases h)
def caT59 : List (Nat × Nat) := []
theorem cao59 : ∀ e ∈ caT59, xCa 59 e.1 e.2 := (fun _ h => by cases h)
def caT60 : List (Nat × Nat) := []
theorem cao60 : ∀ e ∈ caT60, xCa 60 e.1 e.2 := (fun _ h => by cases h)
def caT61 : List (Nat × Nat) := []
theorem cao61 : ∀ e ∈ caT61, xCa 61 e.1 e.2 := (fun _ h => by cases h)
def caT62 : List (Nat × Nat) := [(311, 1), (110, 3)]
theorem cap62_0 : xCa 62 311 1 := ⟨_, _, by decide, rfl, q441, rfl⟩
theorem cap62_1 : xCa 62 110 3 := ⟨_, _, by decide, rfl, q858, rfl⟩
theorem cao62 : ∀ e ∈ caT62, xCa 62 e.1 e.2 := List.forall_mem_cons.mpr ⟨cap62_0, List.forall_mem_cons.mpr ⟨cap62_1, (fun _ h => by cases h)⟩⟩
def caT63 : List (Nat × Nat) := []
theorem cao63 : ∀ e ∈ caT63, xCa 63 e.1 e.2 := (fun _ h => by cases h)
def caT64 : List (Nat × Nat) := []
theorem cao64 : ∀ e ∈ caT64, xCa 64 e.1 e.2 := (fun _ h => by cases h)
def caT65 : List (Nat × Nat) := []
theorem cao65 : ∀ e ∈ caT65, xCa 65 e.1 e.2 := (fun _ h => by cases h)
def caT66 : List (Nat × Nat) := []
theorem cao66 : ∀ e ∈ caT66, xCa 66 e.1 e.2 := (fun _ h => by cases h)
def caT67 : List (Nat × Nat) := []
theorem cao67 : ∀ e ∈ caT67, xCa 67 e.1 e.2 := (fun _ h => by cases h)
def caT68 : List (Nat × Nat) := []
theorem cao68 : ∀ e ∈ caT68, xCa 68 e.1 e.2 := (fun _ h => by cases h)
def caT69 : List (Nat × Nat) := []
theorem cao69 : ∀ e ∈ caT69, xCa 69 e.1 e.2 := (fun _ h => by cases h)
def caT70 : List (Nat × Nat) := [(60, 1), (82, 0)]
theorem cap70_0 : xCa 70 60 1 := ⟨_, _, by decide, rfl, q1087, rfl⟩
theorem cap70_1 : xCa 70 82 0 := ⟨_, _, by decide, rfl, q1118, rfl⟩
theorem cao70 : ∀ e ∈ caT70, xCa 70 e.1 e.2 := List.forall_mem_cons.mpr ⟨cap70_0, List.forall_mem_cons.mpr ⟨cap70_1, (fun _ h => by cases h)⟩⟩
def caT71 : List (Nat × Nat) := []
theorem cao71 : ∀ e ∈ caT71, xCa 71 e.1 e.2 := (fun _ h => by cases h)
def caL (oc : Nat) : List (Nat × Nat) := match oc with
  | 0 => caT0
  | 1 => caT1
  | 2 => caT2
  | 3 => caT3
  | 4 => caT4
  | 5 => caT5
  | 6 => caT6
  | 7 => caT7
  | 8 => caT8
  | 9 => caT9
  | 10 => caT10
  | 11 => caT11
  | 12 => caT12
  | 13 => caT13
  | 14 => caT14
  | 15 => caT15
  | 16 => caT16
  | 17 => caT17
  | 18 => caT18
  | 19 => caT19
  | 20 => caT20
  | 21 => caT21
  | 22 => caT22
  | 23 => caT23
  | 24 => caT24
  | 25 => caT25
  | 26 => caT26
  | 27 => caT27
  | 28 => caT28
  | 29 => caT29
  | 30 => caT30
  | 31 => caT31
  | 32 => caT32
  | 33 => caT33
  | 34 => caT34
  | 35 => caT35
  | 36 => caT36
  | 37 => caT37
  | 38 => caT38
  | 39 => caT39
  | 40 => caT40
  | 41 => caT41
  | 42 => caT42
  | 43 => caT43
  | 44 => caT44
  | 45 => caT45
  | 46 => caT46
  | 47 => caT47
  | 48 => caT48
  | 49 => caT49
  | 50 => caT50
  | 51 => caT51
  | 52 => caT52
  | 53 => caT53
  | 54 => caT54
  | 55 => caT55
  | 56 => caT56
  | 57 => caT57
  | 58 => caT58
  | 59 => caT59
  | 60 => caT60
  | 61 => caT61
  | 62 => caT62
  | 63 => caT63
  | 64 => caT64
  | 65 => caT65
  | 66 => caT66
  | 67 => caT67
  | 68 => caT68
  | 69 => caT69
  | 70 => caT70
  | 71 => caT71
  | _ => []
theorem caL_ok : ∀ oc, ∀ e ∈ caL oc, xCa oc e.1 e.2 := by
  intro oc
  unfold caL
  split
  · exact cao0
  · exact cao1
  · exact cao2
  · exact cao3
  · exact cao4
  · exact cao5
  · exact cao6
  · exact cao7
  · exact cao8
  · exact cao9
  · exact cao10
  · exact cao11
  · exact cao12
  · exact cao13
  · exact cao14
  · exact cao15
  · exact cao16
  · exact cao17
  · exact cao18
  · exact cao19
  · exact cao20
  · exact cao21
  · exact cao22
  · exact cao23
  · exact cao24
  · exact cao25
  · exact cao26
  · exact cao27
  · exact cao28
  · exact cao29
  · exact cao30
  · exact cao31
  · exact cao32
  · exact cao33
  · exact cao34
  · exact cao35
  · exact cao36
  · exact cao37
  · exact cao38
  · exact cao39
  · exact cao40
  · exact cao41
  · exact cao42
  · exact cao43
  · exact cao44
  · exact cao45
  · exact cao46
  · exact cao47
  · exact cao48
  · exact cao49
  · exact cao50
  · exact cao51
  · exact cao52
  · exact cao53
  · exact cao54
  · exact cao55
  · exact cao56
  · exact cao57
  · exact cao58
  · exact cao59
  · exact cao60
  · exact cao61
  · exact cao62
  · exact cao63
  · exact cao64
  · exact cao65
  · exact cao66
  · exact cao67
  · exact cao68
  · exact cao69
  · exact cao70
  · exact cao71
  · intro e h; cases h
def xGs (oc idx i : Nat) : Prop := ∃ q : String × String × String, ST[i]? = some q ∧ Cond.fieldLink (ocN oc) idx q.1 q.2.1 q.2.2 ∈ lw_all
def gsT0 : List (Nat × Nat) := []
theorem gso0 : ∀ e ∈ gsT0, xGs 0 e.1 e.2 := (fun _ h => by cases h)
def gsT1 : List (Nat × Nat) := []
theorem gso1 : ∀ e ∈ gsT1, xGs 1 e.1 e.2 := (fun _ h => by cases h)
def gsT2 : List (Nat × Nat) := []
theorem gso2 : ∀ e ∈ gsT2, xGs 2 e.1 e.2 := (fun _ h => by cases h)
def gsT3 : List (Nat × Nat) := []
theorem gso3 : ∀ e ∈ gsT3, xGs 3 e.1 e.2 := (fun _ h => by cases h)
def gsT4 : List (Nat × Nat) := []
theorem gso4 : ∀ e ∈ gsT4, xGs 4 e.1 e.2 := (fun _ h => by cases h)
def gsT5 : List (Nat × Nat) := []
theorem gso5 : ∀ e ∈ gsT5, xGs 5 e.1 e.2 := (fun _ h => by cases h)
def gsT6 : List (Nat × Nat) := []
theorem gso6 : ∀ e ∈ gsT6, xGs 6 e.1 e.2 := (fun _ h => by cases h)
def gsT7 : List (Nat × Nat) := []
theorem gso7 : ∀ e ∈ gsT7, xGs 7 e.1 e.2 := (fun _ h => by cases h)
def gsT8 : List (Nat × Nat) := []
theorem gso8 : ∀ e ∈ gsT8, xGs 8 e.1 e.2 := (fun _ h => by cases h)
def gsT9 : List (Nat × Nat) := []
theorem gso9 : ∀ e ∈ gsT9, xGs 9 e.1 e.2 := (fun _ h => by cases h)
def gsT10 : List (Nat × Nat) := []
theorem gso10 : ∀ e ∈ gsT10, xGs 10 e.1 e.2 := (fun _ h => by cases h)
def gsT11 : List (Nat × Nat) := []
theorem gso11 : ∀ e ∈ gsT11, xGs 11 e.1 e.2 := (fun _ h => by cases h)
def gsT12 : List (Nat × Nat) := [(138, 16), (83, 13), (328, 36), (334, 37), (349, 34), (352, 35), (132, 14), (400, 32), (404, 33), (355, 30), (361, 31), (216, 39), (224, 40), (227, 41), (301, 15)]
theorem gsp12_0 : xGs 12 138 16 := ⟨_, rfl, q956⟩
theorem gsp12_1 : xGs 12 83 13 := ⟨_, rfl, q977⟩
theorem gsp12_2 : xGs 12 328 36 := ⟨_, rfl, q1685⟩
theorem gsp12_3 : xGs 12 334 37 := ⟨_, rfl, q1687⟩
theorem gsp12_4 : xGs 12 349 34 := ⟨_, rfl, q1680⟩
theorem gsp12_5 : xGs 12 352 35 := ⟨_, rfl, q1682⟩
theorem gsp12_6 : xGs 12 132 14 := ⟨_, rfl, q1521⟩
theorem gsp12_7 : xGs 12 400 32 := ⟨_, rfl, q1651⟩
theorem gsp12_8 : xGs 12 404 33 := ⟨_, rfl, q1653⟩
theorem gsp12_9 : xGs 12 355 30 := ⟨_, rfl, q1621⟩
theorem gsp12_10 : xGs 12 361 31 := ⟨_, rfl, q1623⟩
theorem gsp12_11 : xGs 12 216 39 := ⟨_, rfl, q2021⟩
theorem gsp12_12 : xGs 12 224 40 := ⟨_, rfl, q2024⟩
theorem gsp12_13 : xGs 12 227 41 := ⟨_, rfl, q2026⟩
theorem gsp12_14 : xGs 12 301 15 := ⟨_, rfl, q2096⟩
theorem gso12 : ∀ e ∈ gsT12, xGs 12 e.1 e.2 := List.forall_mem_cons.mpr ⟨gsp12_0, List.forall_mem_cons.mpr ⟨gsp12_1, List.forall_mem_cons.mpr ⟨gsp12_2, List.forall_mem_cons.mpr ⟨gsp12_3, List.forall_mem_cons.mpr ⟨gsp12_4, List.forall_mem_cons.mpr ⟨gsp12_5, List.forall_mem_cons.mpr ⟨gsp12_6, List.forall_mem_cons.mpr ⟨gsp12_7, List.forall_mem_cons.mpr ⟨gsp12_8, List.forall_mem_cons.mpr ⟨gsp12_9, List.forall_mem_cons.mpr ⟨gsp12_10, List.forall_mem_cons.mpr ⟨gsp12_11, List.forall_mem_cons.mpr ⟨gsp12_12, List.forall_mem_cons.mpr ⟨gsp12_13, List.forall_mem_cons.mpr ⟨gsp12_14, (fun _ h => by cases h)⟩⟩⟩⟩⟩⟩⟩⟩⟩⟩⟩⟩⟩⟩⟩
def gsT13 : List (Nat × Nat) := [(59, 1), (72, 16), (95, 12), (98, 13), (101, 14), (109, 15), (22, 11)]
theorem gsp13_0 : xGs 13 59 1 := ⟨_, rfl, q342⟩
theorem gsp13_1 : xGs 13 72 16 := ⟨_, rfl, q863⟩
theorem gsp13_2 : xGs 13 95 12 := ⟨_, rfl, q721⟩
theorem gsp13_3 : xGs 13 98 13 := ⟨_, rfl, q723⟩
theorem gsp13_4 : xGs 13 101 14 := ⟨_, rfl, q725⟩
theorem gsp13_5 : xGs 13 109 15 := ⟨_, rfl, q778⟩
theorem gsp13_6 : xGs 13 22 11 := ⟨_, rfl, q711⟩
theorem gso13 : ∀ e ∈ gsT13, xGs 13 e.1 e.2 := List.forall_mem_cons.mpr ⟨gsp13_0, List.forall_mem_cons.mpr ⟨gsp13_1, List.forall_mem_cons.mpr ⟨gsp13_2, List.forall_mem_cons.mpr ⟨gsp13_3, List.forall_mem_cons.mpr ⟨gsp13_4, List.forall_mem_cons.mpr ⟨gsp13_5, List.forall_mem_cons.mpr ⟨gsp13_6, (fun _ h => by cases h)⟩⟩⟩⟩⟩⟩⟩
def gsT14 : List (Nat × Nat) := []
theorem gso14 : ∀ e ∈ gsT14, xGs 14 e.1 e.2 := (fun _ h => by cases h)
def gsT15 : List (Nat × Nat) := []
theorem gso15 : ∀ e ∈ gsT15, xGs 15 e.1 e.2 := (fun _ h => by cases h)
def gsT16 : List (Nat × Nat) := []
theorem gso16 : ∀ e ∈ gsT16, xGs 16 e.1 e.2 := (fun _ h => by cases h)
def gsT17 : List (Nat × Nat) := []
theorem gso17 : ∀ e ∈ gsT17, xGs 17 e.1 e.2 := (fun _ h => by cases h)
def gsT18 : List (Nat × Nat) := []
theorem gso18 : ∀ e ∈ gsT18, xGs 18 e.1 e.2 := (fun _ h => by cases h)
def gsT19 : List (Nat × Nat) := []
theorem gso19 : ∀ e ∈ gsT19, xGs 19 e.1 e.2 := (fun _ h => by cases h)
def gsT20 : List (Nat × Nat) := []
theorem gso20 : ∀ e ∈ gsT20, xGs 20 e.1 e.2 := (fun _ h => by cases h)
def gsT21 : List (Nat × Nat) := []
theorem gso21 : ∀ e ∈ gsT21, xGs 21 e.1 e.2 := (fun _ h => by cases h)
def gsT22 : List (Nat × Nat) := []
theorem gso22 : ∀ e ∈ gsT22, xGs 22 e.1 e.2 := (fun _ h => by cases h)
def gsT23 : List (Nat × Nat) := []
theorem gso23 : ∀ e ∈ gsT23, xGs 23 e.1 e.2 := (fun _ h => by cases h)
def gsT24 : List (Nat × Nat) := []
theorem gso24 : ∀ e ∈ gsT24, xGs 24 e.1 e.2 := (fun _ h => by cases h)
def gsT25 : List (Nat × Nat) := []
theorem gso25 : ∀ e ∈ gsT25, xGs 25 e.1 e.2 := (fun _ h => by cases h)
def gsT26 : List (Nat × Nat) := []
theorem gso26 : ∀ e ∈ gsT26, xGs 26 e.1 e.2 := (fun _ h => by cases h)
def gsT27 : List (Nat × Nat) := []
theorem gso27 : ∀ e ∈ gsT27, xGs 27 e.1 e.2 := (fun _ h => by cases h)
def gsT28 : List (Nat × Nat) := [(21, 12), (26, 15)]
theorem gsp28_0 : xGs 28 21 12 := ⟨_, rfl, q966⟩
theorem gsp28_1 : xGs 28 26 15 := ⟨_, rfl, q967⟩
theorem gso28 : ∀ e ∈ gsT28, xGs 28 e.1 e.2 := List.forall_mem_cons.mpr ⟨gsp28_0, List.forall_mem_cons.mpr ⟨gsp28_1, (fun _ h => by cases h)⟩⟩
def gsT29 : List (Nat × Nat) := []
theorem gso29 : ∀ e ∈ gsT29, xGs 29 e.1 e.2 := (fun _ h => by cases h)
def gsT30 : List (Nat × Nat) := []
theorem gso30 : ∀ e ∈ gsT30, xGs 30 e.1 e.2 := (fun _ h => by cases h)
def gsT31 : List (Nat × Nat) := []
theorem gso31 : ∀ e ∈ gsT31, xGs 31 e.1 e.2 := (fun _ h => by cases h)
def gsT32 : List (Nat × Nat) := []
theorem gso32 : ∀ e ∈ gsT32, xGs 32 e.1 e.2 := (fun _ h => by cases h)
def gsT33 : List (Nat × Nat) := []
theorem gso33 : ∀ e ∈ gsT33, xGs 33 e.1 e.2 := (fun _ h => by cases h)
def gsT34 : List (Nat × Nat) := [(249, 42)]
theorem gsp34_0 : xGs 34 249 42 := ⟨_, rfl, q2899⟩
theorem gso34 : ∀ e ∈ gsT34, xGs 34 e.1 e.2 := List.forall_mem_cons.mpr ⟨gsp34_0, (fun _ h => by cases h)⟩
def gsT35 : List (Nat × Nat) := []
theorem gso35 : ∀ e ∈ gsT35, xGs 35 e.1 e.2 := (fun _ h => by cases h)
def gsT36 : List (Nat × Nat) := []
theorem gso36 : ∀ e ∈ gsT36, xGs 36 e.1 e.2 := (fun _ h => by cases h)
def gsT37 : List (Nat × Nat) := [(18, 2)]
theorem gsp37_0 : xGs 37 18 2 := ⟨_, rfl, q383⟩
theorem gso37 : ∀ e ∈ gsT37, xGs 37 e.1 e.2 := List.forall_mem_cons.mpr ⟨gsp37_0, (fun _ h => by cases h)⟩
def gsT38 : List (Nat × Nat) := []
theorem gso38 : ∀ e ∈ gsT38, xGs 38 e.1 e.2 := (fun _ h => by cases h)
def gsT39 : List (Nat × Nat) := []
theorem gso39 : ∀ e ∈ gsT39, xGs 39 e.1 e.2 := (fun _ h => by cases h)
def gsT40 : List (Nat × Nat) := []
theorem gso40 : ∀ e ∈ gsT40, xGs 40 e.1 e.2 := (fun _ h => by cases h)
def gsT41 : List (Nat × Nat) := []
theorem gso41 : ∀ e ∈ gsT41, xGs 41 e.1 e.2 := (fun _ h => by cases h)
def gsT42 : List (Nat × Nat) := []
theorem gso42 : ∀ e ∈ gsT42, xGs 42 e.1 e.2 := (fun _ h => by cases h)
def gsT43 : List (Nat × Nat) := []
theorem gso43 : ∀ e ∈ gsT43, xGs 43 e.1 e.2 := (fun _ h => by cases h)
def gsT44 : List (Nat × Nat) := []
theorem gso44 : ∀ e ∈ gsT44, xGs 44 e.1 e.2 := (fun _ h => by cases h)
def gsT45 : List (Nat × Nat) := [(83, 9), (87, 10), (191, 27), (195, 28)]
theorem gsp45_0 : xGs 45 83 9 := ⟨_, rfl, q595⟩
theorem gsp45_1 : xGs 45 87 10 := ⟨_, rfl, q597⟩
theorem gsp45_2 : xGs 45 191 27 := ⟨_, rfl, q1579⟩
theorem gsp45_3 : xGs 45 195 28 := ⟨_, rfl, q1581⟩
theorem gso45 : ∀ e ∈ gsT45, xGs 45 e.1 e.2 := List.forall_mem_cons.mpr ⟨gsp45_0, List.forall_mem_cons.mpr ⟨gsp45_1, List.forall_mem_cons.mpr ⟨gsp45_2, List.forall_mem_cons.mpr ⟨gsp45_3, (fun _ h => by cases h)⟩⟩⟩⟩
def gsT46 : List (Nat × Nat) := []
theorem gso46 : ∀ e ∈ gsT46, xGs 46 e.1 e.2 := (fun _ h => by cases h)
def gsT47 : List (Nat × Nat) := []
theorem gso47 : ∀ e ∈ gsT47, xGs 47 e.1 e.2 := (fun _ h => by cases h)
def gsT48 : List (Nat × Nat) := []
theorem gso48 : ∀ e ∈ gsT48, xGs 48 e.1 e.2 := (fun _ h => by cases h)
def gsT49 : List (Nat × Nat) := []
theorem gso49 : ∀ e ∈ gsT49, xGs 49 e.1 e.2 := (fun _ h => by cases h)
def gsT50 : List (Nat × Nat) := []
theorem gso50 : ∀ e ∈ gsT50, xGs 50 e.1 e.2 := (fun _ h => by cases h)
def gsT51 : List (Nat × Nat) := [(1053, 3), (38, 2)]
theorem gsp51_0 : xGs 51 1053 3 := ⟨_, rfl, q475⟩
theorem gsp51_1 : xGs 51 38 2 := ⟨_, rfl, q639⟩
theorem gso51 : ∀ e ∈ gsT51, xGs 51 e.1 e.2 := List.forall_mem_cons.mpr ⟨gsp51_0, List.forall_mem_cons.mpr ⟨gsp51_1, (fun _ h => by cases h)⟩⟩
def gsT52 : List (Nat × Nat) := []
theorem gso52 : ∀ e ∈ gsT52, xGs 52 e.1 e.2 := (fun _ h => by cases h)
def gsT53 : List (Nat × Nat) := []
theorem gso53 : ∀ e ∈ gsT53, xGs 53 e.1 e.2 := (fun _ h => by cases h)
def gsT54 : List (Nat × Nat) := [(44, 4), (59, 5), (63, 6), (403, 9), (407, 10)]
theorem gsp54_0 : xGs 54 44 4 := ⟨_, rfl, q483⟩
theorem gsp54_1 : xGs 54 59 5 := ⟨_, rfl, q485⟩
theorem gsp54_2 : xGs 54 63 6 := ⟨_, rfl, q487⟩
theorem gsp54_3 : xGs 54 403 9 := ⟨_, rfl, q614⟩
theorem gsp54_4 : xGs 54 407 10 := ⟨_, rfl, q615⟩
theorem gso54 : ∀ e ∈ gsT54, xGs 54 e.1 e.2 := List.forall_mem_cons.mpr ⟨gsp54_0, List.forall_mem_cons.mpr ⟨gsp54_1, List.forall_mem_cons.mpr ⟨gsp54_2, List.forall_mem_cons.mpr ⟨gsp54_3, List.forall_mem_cons.mpr ⟨gsp54_4, (fun _ h => by cases h)⟩⟩⟩⟩⟩
def gsT55 : List (Nat × Nat) := []
theorem gso55 : ∀ e ∈ gsT55, xGs 55 e.1 e.2 := (fun _ h => by cases h)
def gsT56 : List (Nat × Nat) := [(13, 7), (20, 8)]
theorem gsp56_0 : xGs 56 13 7 := ⟨_, rfl, q563⟩
theorem gsp56_1 : xGs 56 20 8 := ⟨_, rfl, q565⟩
theorem gso56 : ∀ e ∈ gsT56, xGs 56 e.1 e.2 := List.forall_mem_cons.mpr ⟨gsp56_0, List.forall_mem_cons.mpr ⟨gsp56_1, (fun _ h => by cases h)⟩⟩
def gsT57 : List (Nat × Nat) := []
theorem gso57 : ∀ e ∈ gsT57, xGs 57 e.1 e.2 := (fun _ h => by cases h)
def gsT58 : List (Nat × Nat) := []
theorem gso58 : ∀ e ∈ gsT58, xGs 58 e.1 e.2 := (fun _ h => by cases h)
def gsT59 : List (Nat × Nat) := []
theorem gso59 : ∀ e ∈ gsT59, xGs 59 e.1 e.2 := (fun _ h => by cases h)
def gsT60 : List (Nat × Nat) := [(39, 0)]
theorem gsp60_0 : xGs 60 39 0 := ⟨_, rfl, q219⟩
theorem gso60 : ∀ e ∈ gsT60, xGs 60 e.1 e.2 := List.forall_mem_cons.mpr ⟨gsp60_0, (fun _ h => by cases h)⟩
def gsT61 : List (Nat × Nat) := []
theorem gso61 : ∀ e ∈ gsT61, xGs 61 e.1 e.2 := (fun _ h => by cases h)
def gsT62 : List (Nat × Nat) := []
theorem gso62 : ∀ e ∈ gsT62, xGs 62 e.1 e.2 := (fun _ h => by cases h)
def gsT63 : List (Nat × Nat) := []
theorem gso63 : ∀ e ∈ gsT63, xGs 63 e.1 e.2 := (fun _ h => by cases h)
def gsT64 : List (Nat × Nat) := []
theorem gso64 : ∀ e ∈ gsT64, xGs 64 e.1 e.2 := (fun _ h => by cases h)
def gsT65 : List (Nat × Nat) := [(26, 38)]
theorem gsp65_0 : xGs 65 26 38 := ⟨_, rfl, q1881⟩
theorem gso65 : ∀ e ∈ gsT65, xGs 65 e.1 e.2 := List.forall_mem_cons.mpr ⟨gsp65_0, (fun _ h => by cases h)⟩
def gsT66 : List (Nat × Nat) := []
theorem gso66 : ∀ e ∈ gsT66, xGs 66 e.1 e.2 := (fun _ h => by cases h)
def gsT67 : List (Nat × Nat) := []
theorem gso67 : ∀ e ∈ gsT67, xGs 67 e.1 e.2 := (fun _ h => by cases h)
def gsT68 : List (Nat × Nat) := [(1, 26)]
theorem gsp68_0 : xGs 68 1 26 := ⟨_, rfl, q1564⟩
theorem gso68 : ∀ e ∈ gsT68, xGs 68 e.1 e.2 := List.forall_mem_cons.mpr ⟨gsp68_0, (fun _ h => by cases h)⟩
def gsT69 : List (Nat × Nat) := [(351, 22)]
theorem gsp69_0 : xGs 69 351 22 := ⟨_, rfl, q1375⟩
theorem gso69 : ∀ e ∈ gsT69, xGs 69 e.1 e.2 := List.forall_mem_cons.mpr ⟨gsp69_0, (fun _ h => by cases h)⟩
def gsT70 : List (Nat × Nat) := [(106, 17), (126, 18), (129, 19), (20, 20), (26, 21), (36, 23), (46, 24), (51, 25)]
theorem gsp70_0 : xGs 70 106 17 := ⟨_, rfl, q1094⟩
theorem gsp70_1 : xGs 70 126 18 := ⟨_, rfl, q1339⟩
theorem gsp70_2 : xGs 70 129 19 := ⟨_, rfl, q1341⟩
theorem gsp70_3 : xGs 70 20 20 := ⟨_, rfl, q1346⟩
theorem gsp70_4 : xGs 70 26 21 := ⟨_, rfl, q1348⟩
theorem gsp70_5 : xGs 70 36 23 := ⟨_, rfl, q1402⟩
theorem gsp70_6 : xGs 70 46 24 := ⟨_, rfl, q1411⟩
theorem gsp70_7 : xGs 70 51 25 := ⟨_, rfl, q1419⟩
theorem gso70 : ∀ e ∈ gsT70, xGs 70 e.1 e.2 := List.forall_mem_cons.mpr ⟨gsp70_0, List.forall_mem_cons.mpr ⟨gsp70_1, List.forall_mem_cons.mpr ⟨gsp70_2, List.forall_mem_cons.mpr ⟨gsp70_3, List.forall_mem_cons.mpr ⟨gsp70_4, List.forall_mem_cons.mpr ⟨gsp70_5, List.forall_mem_cons.mpr ⟨gsp70_6, List.forall_mem_cons.mpr ⟨gsp70_7, (fun _ h => by cases h)⟩⟩⟩⟩⟩⟩⟩⟩
def gsT71 : List (Nat × Nat) := []
theorem gso71 : ∀ e ∈ gsT71, xGs 71 e.1 e.2 := (fun _ h => by cases h)
def gsL (oc : Nat) : List (Nat × Nat) := match oc with
  | 0 => gsT0
  | 1 => gsT1
  | 2 => gsT2
  | 3 => gsT3
  | 4 => gsT4
  | 5 => gsT5
  | 6 => gsT6
  | 7 => gsT7
  | 8 => gsT8
  | 9 => gsT9
  | 10 => gsT10
  | 11 => gsT11
  | 12 => gsT12
  | 13 => gsT13
  | 14 => gsT14
  | 15 => gsT15
  | 16 => gsT16
  | 17 => gsT17
  | 18 => gsT18
  | 19 => gsT19
  | 20 => gsT20
  | 21 => gsT21
  | 22 => gsT22
  | 23 => gsT23
  | 24 => gsT24
  | 25 => gsT25
  | 26 => gsT26
  | 27 => gsT27
  | 28 => gsT28
  | 29 => gsT29
  | 30 => gsT30
  | 31 => gsT31
  | 32 => gsT32
  | 33 => gsT33
  | 34 => gsT34
  | 35 => gsT35
  | 36 => gsT36
  | 37 => gsT37
  | 38 => gsT38
  | 39 => gsT39
  | 40 => gsT40
  | 41 => gsT41
  | 42 => gsT42
  | 43 => gsT43
  | 44 => gsT44
  | 45 => gsT45
  | 46 => gsT46
  | 47 => gsT47
  | 48 => gsT48
  | 49 => gsT49
  | 50 => gsT50
  | 51 => gsT51
  | 52 => gsT52
  | 53 => gsT53
  | 54 => gsT54
  | 55 => gsT55
  | 56 => gsT56
  | 57 => gsT57
  | 58 => gsT58
  | 59 => gsT59
  | 60 => gsT60
  | 61 => gsT61
  | 62 => gsT62
  | 63 => gsT63
  | 64 => gsT64
  | 65 => gsT65
  | 66 => gsT66
  | 67 => gsT67
  | 68 => gsT68
  | 69 => gsT69
  | 70 => gsT70
  | 71 => gsT71
  | _ => []
theorem gsL_ok : ∀ oc, ∀ e ∈ gsL oc, xGs oc e.1 e.2 := by
  intro oc
  unfold gsL
  split
  · exact gso0
  · exact gso1
  · exact gso2
  · exact gso3
  · exact gso4
  · exact gso5
  · exact gso6
  · exact gso7
  · exact gso8
  · exact gso9
  · exact gso10
  · exact gso11
  · exact gso12
  · exact gso13
  · exact gso14
  · exact gso15
  · exact gso16
  · exact gso17
  · exact gso18
  · exact gso19
  · exact gso20
  · exact gso21
  · exact gso22
  · exact gso23
  · exact gso24
  · exact gso25
  · exact gso26
  · exact gso27
  · exact gso28
  · exact gso29
  · exact gso30
  · exact gso31
  · exact gso32
  · exact gso33
  · exact gso34
  · exact gso35
  · exact gso36
  · exact gso37
  · exact gso38
  · exact gso39
  · exact gso40
  · exact gso41
  · exact gso42
  · exact gso43
  · exact gso44
  · exact gso45
  · exact gso46
  · exact gso47
  · exact gso48
  · exact gso49
  · exact gso50
  · exact gso51
  · exact gso52
  · exact gso53
  · exact gso54
  · exact gso55
  · exact gso56
  · exact gso57
  · exact gso58
  · exact gso59
  · exact gso60
  · exact gso61
  · exact gso62
  · exact gso63
  · exact gso64
  · exact gso65
  · exact gso66
  · exact gso67
  · exact gso68
  · exact gso69
  · exact gso70
  · exact gso71
  · intro e h; cases h
def xLi (oc idx : Nat) (v : Int32) : Prop := Cond.constant (ocN oc) idx v ∈ lw_all
def liT0 : List (Nat × Int32) := []
theorem lio0 : ∀ e ∈ liT0, xLi 0 e.1 e.2 := (fun _ h => by cases h)
def liT1 : List (Nat × Int32) := []
theorem lio1 : ∀ e ∈ liT1, xLi 1 e.1 e.2 := (fun _ h => by cases h)
def liT2 : List (Nat × Int32) := []
theorem lio2 : ∀ e ∈ liT2, xLi 2 e.1 e.2 := (fun _ h => by cases h)
def liT3 : List (Nat × Int32) := []
theorem lio3 : ∀ e ∈ liT3, xLi 3 e.1 e.2 := (fun _ h => by cases h)
def liT4 : List (Nat × Int32) := []
theorem lio4 : ∀ e ∈ liT4, xLi 4 e.1 e.2 := (fun _ h => by cases h)
def liT5 : List (Nat × Int32) := []
theorem lio5 : ∀ e ∈ liT5, xLi 5 e.1 e.2 := (fun _ h => by cases h)
def liT6 : List (Nat × Int32) := []
theorem lio6 : ∀ e ∈ liT6, xLi 6 e.1 e.2 := (fun _ h => by cases h)
def liT7 : List (Nat × Int32) := []
theorem lio7 : ∀ e ∈ liT7, xLi 7 e.1 e.2 := (fun _ h => by cases h)
def liT8 : List (Nat × Int32) := []
theorem lio8 : ∀ e ∈ liT8, xLi 8 e.1 e.2 := (fun _ h => by cases h)
def liT9 : List (Nat × Int32) := []
theorem lio9 : ∀ e ∈ liT9, xLi 9 e.1 e.2 := (fun _ h => by cases h)
def liT10 : List (Nat × Int32) := []
theorem lio10 : ∀ e ∈ liT10, xLi 10 e.1 e.2 := (fun _ h => by cases h)
def liT11 : List (Nat × Int32) := []
theorem lio11 : ∀ e ∈ liT11, xLi 11 e.1 e.2 := (fun _ h => by cases h)
def liT12 : List (Nat × Int32) := []
theorem lio12 : ∀ e ∈ liT12, xLi 12 e.1 e.2 := (fun _ h => by cases h)
def liT13 : List (Nat × Int32) := []
theorem lio13 : ∀ e ∈ liT13, xLi 13 e.1 e.2 := (fun _ h => by cases h)
def liT14 : List (Nat × Int32) := []
theorem lio14 : ∀ e ∈ liT14, xLi 14 e.1 e.2 := (fun _ h => by cases h)
def liT15 : List (Nat × Int32) := []
theorem lio15 : ∀ e ∈ liT15, xLi 15 e.1 e.2 := (fun _ h => by cases h)
def liT16 : List (Nat × Int32) := []
theorem lio16 : ∀ e ∈ liT16, xLi 16 e.1 e.2 := (fun _ h => by cases h)
def liT17 : List (Nat × Int32) := []
theorem lio17 : ∀ e ∈ liT17, xLi 17 e.1 e.2 := (fun _ h => by cases h)
def liT18 : List (Nat × Int32) := []
theorem lio18 : ∀ e ∈ liT18, xLi 18 e.1 e.2 := (fun _ h => by cases h)
def liT19 : List (Nat × Int32) := []
theorem lio19 : ∀ e ∈ liT19, xLi 19 e.1 e.2 := (fun _ h => by cases h)
def liT20 : List (Nat × Int32) := []
theorem lio20 : ∀ e ∈ liT20, xLi 20 e.1 e.2 := (fun _ h => by cases h)
def liT21 : List (Nat × Int32) := []
theorem lio21 : ∀ e ∈ liT21, xLi 21 e.1 e.2 := (fun _ h => by cases h)
def liT22 : List (Nat × Int32) := []
theorem lio22 : ∀ e ∈ liT22, xLi 22 e.1 e.2 := (fun _ h => by cases h)
def liT23 : List (Nat × Int32) := []
theorem lio23 : ∀ e ∈ liT23, xLi 23 e.1 e.2 := (fun _ h => by cases h)
def liT24 : List (Nat × Int32) := []
theorem lio24 : ∀ e ∈ liT24, xLi 24 e.1 e.2 := (fun _ h => by cases h)
def liT25 : List (Nat × Int32) := []
theorem lio25 : ∀ e ∈ liT25, xLi 25 e.1 e.2 := (fun _ h => by cases h)
def liT26 : List (Nat × Int32) := []
theorem lio26 : ∀ e ∈ liT26, xLi 26 e.1 e.2 := (fun _ h => by cases h)
def liT27 : List (Nat × Int32) := []
theorem lio27 : ∀ e ∈ liT27, xLi 27 e.1 e.2 := (fun _ h => by cases h)
def liT28 : List (Nat × Int32) := []
theorem lio28 : ∀ e ∈ liT28, xLi 28 e.1 e.2 := (fun _ h => by cases h)
def liT29 : List (Nat × Int32) := []
theorem lio29 : ∀ e ∈ liT29, xLi 29 e.1 e.2 := (fun _ h => by cases h)
def liT30 : List (Nat × Int32) := []
theorem lio30 : ∀ e ∈ liT30, xLi 30 e.1 e.2 := (fun _ h => by cases h)
def liT31 : List (Nat × Int32) := []
theorem lio31 : ∀ e ∈ liT31, xLi 31 e.1 e.2 := (fun _ h => by cases h)
def liT32 : List (Nat × Int32) := []
theorem lio32 : ∀ e ∈ liT32, xLi 32 e.1 e.2 := (fun _ h => by cases h)
def liT33 : List (Nat × Int32) := []
theorem lio33 : ∀ e ∈ liT33, xLi 33 e.1 e.2 := (fun _ h => by cases h)
def liT34 : List (Nat × Int32) := []
theorem lio34 : ∀ e ∈ liT34, xLi 34 e.1 e.2 := (fun _ h => by cases h)
def liT35 : List (Nat × Int32) := []
theorem lio35 : ∀ e ∈ liT35, xLi 35 e.1 e.2 := (fun _ h => by cases h)
def liT36 : List (Nat × Int32) := []
theorem lio36 : ∀ e ∈ liT36, xLi 36 e.1 e.2 := (fun _ h => by cases h)
def liT37 : List (Nat × Int32) := [(39, 2147483647)]
theorem lip37_0 : xLi 37 39 (2147483647) := q431
theorem lio37 : ∀ e ∈ liT37, xLi 37 e.1 e.2 := List.forall_mem_cons.mpr ⟨lip37_0, (fun _ h => by cases h)⟩
def liT38 : List (Nat × Int32) := []
theorem lio38 : ∀ e ∈ liT38, xLi 38 e.1 e.2 := (fun _ h => by cases h)
def liT39 : List (Nat × Int32) := [(110, 55232), (76, 56320)]
theorem lip39_0 : xLi 39 110 (55232) := q773
theorem lip39_1 : xLi 39 76 (56320) := q777
theorem lio39 : ∀ e ∈ liT39, xLi 39 e.1 e.2 := List.forall_mem_cons.mpr ⟨lip39_0, List.forall_mem_cons.mpr ⟨lip39_1, (fun _ h => by cases h)⟩⟩
def liT40 : List (Nat × Int32) := []
theorem lio40 : ∀ e ∈ liT40, xLi 40 e.1 e.2 := (fun _ h => by cases h)
def liT41 : List (Nat × Int32) := []
theorem lio41 : ∀ e ∈ liT41, xLi 41 e.1 e.2 := (fun _ h => by cases h)
def liT42 : List (Nat × Int32) := []
theorem lio42 : ∀ e ∈ liT42, xLi 42 e.1 e.2 := (fun _ h => by cases h)
def liT43 : List (Nat × Int32) := []
theorem lio43 : ∀ e ∈ liT43, xLi 43 e.1 e.2 := (fun _ h => by cases h)
def liT44 : List (Nat × Int32) := []
theorem lio44 : ∀ e ∈ liT44, xLi 44 e.1 e.2 := (fun _ h => by cases h)
def liT45 : List (Nat × Int32) := [(264, 65536)]
theorem lip45_0 : xLi 45 264 (65536) := q1410
theorem lio45 : ∀ e ∈ liT45, xLi 45 e.1 e.2 := List.forall_mem_cons.mpr ⟨lip45_0, (fun _ h => by cases h)⟩
def liT46 : List (Nat × Int32) := []
theorem lio46 : ∀ e ∈ liT46, xLi 46 e.1 e.2 := (fun _ h => by cases h)
def liT47 : List (Nat × Int32) := []
theorem lio47 : ∀ e ∈ liT47, xLi 47 e.1 e.2 := (fun _ h => by cases h)
def liT48 : List (Nat × Int32) := []
theorem lio48 : ∀ e ∈ liT48, xLi 48 e.1 e.2 := (fun _ h => by cases h)
def liT49 : List (Nat × Int32) := []
theorem lio49 : ∀ e ∈ liT49, xLi 49 e.1 e.2 := (fun _ h => by cases h)
def liT50 : List (Nat × Int32) := []
theorem lio50 : ∀ e ∈ liT50, xLi 50 e.1 e.2 := (fun _ h => by cases h)
def liT51 : List (Nat × Int32) := []
theorem lio51 : ∀ e ∈ liT51, xLi 51 e.1 e.2 := (fun _ h => by cases h)
def liT52 : List (Nat × Int32) := []
theorem lio52 : ∀ e ∈ liT52, xLi 52 e.1 e.2 := (fun _ h => by cases h)
def liT53 : List (Nat × Int32) := []
theorem lio53 : ∀ e ∈ liT53, xLi 53 e.1 e.2 := (fun _ h => by cases h)
def liT54 : List (Nat × Int32) := [(20, 1073741823), (227, 65536)]
theorem lip54_0 : xLi 54 20 (1073741823) := q391
theorem lip54_1 : xLi 54 227 (65536) := q757
theorem lio54 : ∀ e ∈ liT54, xLi 54 e.1 e.2 := List.forall_mem_cons.mpr ⟨lip54_0, List.forall_mem_cons.mpr ⟨lip54_1, (fun _ h => by cases h)⟩⟩
def liT55 : List (Nat × Int32) := []
theorem lio55 : ∀ e ∈ liT55, xLi 55 e.1 e.2 := (fun _ h => by cases h)
def liT56 : List (Nat × Int32) := []
theorem lio56 : ∀ e ∈ liT56, xLi 56 e.1 e.2 := (fun _ h => by cases h)
def liT57 : List (Nat × Int32) := []
theorem lio57 : ∀ e ∈ liT57, xLi 57 e.1 e.2 := (fun _ h => by cases h)
def liT58 : List (Nat × Int32) := []
theorem lio58 : ∀ e ∈ liT58, xLi 58 e.1 e.2 := (fun _ h => by cases h)
def liT59 : List (Nat × Int32) := []
theorem lio59 : ∀ e ∈ liT59, xLi 59 e.1 e.2 := (fun _ h => by cases h)
def liT60 : List (Nat × Int32) := []
theorem lio60 : ∀ e ∈ liT60, xLi 60 e.1 e.2 := (fun _ h => by cases h)
def liT61 : List (Nat × Int32) := []
theorem lio61 : ∀ e ∈ liT61, xLi 61 e.1 e.2 := (fun _ h => by cases h)
def liT62 : List (Nat × Int32) := []
theorem lio62 : ∀ e ∈ liT62, xLi 62 e.1 e.2 := (fun _ h => by cases h)
def liT63 : List (Nat × Int32) := [(42, 1073741824), (209, 2147483647)]
theorem lip63_0 : xLi 63 42 (1073741824) := q1817
theorem lip63_1 : xLi 63 209 (2147483647) := q1818
theorem lio63 : ∀ e ∈ liT63, xLi 63 e.1 e.2 := List.forall_mem_cons.mpr ⟨lip63_0, List.forall_mem_cons.mpr ⟨lip63_1, (fun _ h => by cases h)⟩⟩
def liT64 : List (Nat × Int32) := []
theorem lio64 : ∀ e ∈ liT64, xLi 64 e.1 e.2 := (fun _ h => by cases h)
def liT65 : List (Nat × Int32) := []
theorem lio65 : ∀ e ∈ liT65, xLi 65 e.1 e.2 := (fun _ h => by cases h)
def liT66 : List (Nat × Int32) := []
theorem lio66 : ∀ e ∈ liT66, xLi 66 e.1 e.2 := (fun _ h => by cases h)
def liT67 : List (Nat × Int32) := []
theorem lio67 : ∀ e ∈ liT67, xLi 67 e.1 e.2 := (fun _ h => by cases h)
def liT68 : List (Nat × Int32) := []
theorem lio68 : ∀ e ∈ liT68, xLi 68 e.1 e.2 := (fun _ h => by cases h)
def liT69 : List (Nat × Int32) := [(374, 65535)]
theorem lip69_0 : xLi 69 374 (65535) := q1431
theorem lio69 : ∀ e ∈ liT69, xLi 69 e.1 e.2 := List.forall_mem_cons.mpr ⟨lip69_0, (fun _ h => by cases h)⟩
def liT70 : List (Nat × Int32) := [(200, 2147483639)]
theorem lip70_0 : xLi 70 200 (2147483639) := q427
theorem lio70 : ∀ e ∈ liT70, xLi 70 e.1 e.2 := List.forall_mem_cons.mpr ⟨lip70_0, (fun _ h => by cases h)⟩
def liT71 : List (Nat × Int32) := []
theorem lio71 : ∀ e ∈ liT71, xLi 71 e.1 e.2 := (fun _ h => by cases h)
def liL (oc : Nat) : List (Nat × Int32) := match oc with
  | 0 => liT0
  | 1 => liT1
  | 2 => liT2
  | 3 => liT3
  | 4 => liT4
  | 5 => liT5
  | 6 => liT6
  | 7 => liT7
  | 8 => liT8
  | 9 => liT9
  | 10 => liT10
  | 11 => liT11
  | 12 => liT12
  | 13 => liT13
  | 14 => liT14
  | 15 => liT15
  | 16 => liT16
  | 17 => liT17
  | 18 => liT18
  | 19 => liT19
  | 20 => liT20
  | 21 => liT21
  | 22 => liT22
  | 23 => liT23
  | 24 => liT24
  | 25 => liT25
  | 26 => liT26
  | 27 => liT27
  | 28 => liT28
  | 29 => liT29
  | 30 => liT30
  | 31 => liT31
  | 32 => liT32
  | 33 => liT33
  | 34 => liT34
  | 35 => liT35
  | 36 => liT36
  | 37 => liT37
  | 38 => liT38
  | 39 => liT39
  | 40 => liT40
  | 41 => liT41
  | 42 => liT42
  | 43 => liT43
  | 44 => liT44
  | 45 => liT45
  | 46 => liT46
  | 47 => liT47
  | 48 => liT48
  | 49 => liT49
  | 50 => liT50
  | 51 => liT51
  | 52 => liT52
  | 53 => liT53
  | 54 => liT54
  | 55 => liT55
  | 56 => liT56
  | 57 => liT57
  | 58 => liT58
  | 59 => liT59
  | 60 => liT60
  | 61 => liT61
  | 62 => liT62
  | 63 => liT63
  | 64 => liT64
  | 65 => liT65
  | 66 => liT66
  | 67 => liT67
  | 68 => liT68
  | 69 => liT69
  | 70 => liT70
  | 71 => liT71
  | _ => []
theorem liL_ok : ∀ oc, ∀ e ∈ liL oc, xLi oc e.1 e.2 := by
  intro oc
  unfold liL
  split
  · exact lio0
  · exact lio1
  · exact lio2
  · exact lio3
  · exact lio4
  · exact lio5
  · exact lio6
  · exact lio7
  · exact lio8
  · exact lio9
  · exact lio10
  · exact lio11
  · exact lio12
  · exact lio13
  · exact lio14
  · exact lio15
  · exact lio16
  · exact lio17
  · exact lio18
  · exact lio19
  · exact lio20
  · exact lio21
  · exact lio22
  · exact lio23
  · exact lio24
  · exact lio25
  · exact lio26
  · exact lio27
  · exact lio28
  · exact lio29
  · exact lio30
  · exact lio31
  · exact lio32
  · exact lio33
  · exact lio34
  · exact lio35
  · exact lio36
  · exact lio37
  · exact lio38
  · exact lio39
  · exact lio40
  · exact lio41
  · exact lio42
  · exact lio43
  · exact lio44
  · exact lio45
  · exact lio46
  · exact lio47
  · exact lio48
  · exact lio49
  · exact lio50
  · exact lio51
  · exact lio52
  · exact lio53
  · exact lio54
  · exact lio55
  · exact lio56
  · exact lio57
  · exact lio58
  · exact lio59
  · exact lio60
  · exact lio61
  · exact lio62
  · exact lio63
  · exact lio64
  · exact lio65
  · exact lio66
  · exact lio67
  · exact lio68
  · exact lio69
  · exact lio70
  · exact lio71
  · intro e h; cases h
def xLl (oc idx : Nat) (v : Int64) : Prop := Cond.constantLong (ocN oc) idx v ∈ lw_all
def llT0 : List (Nat × Int64) := [(42, -999), (44, 999), (291, 811), (293, 31)]
theorem llp0_0 : xLl 0 42 (-999) := q1793
theorem llp0_1 : xLl 0 44 (999) := q1794
theorem llp0_2 : xLl 0 291 (811) := q2358
theorem llp0_3 : xLl 0 293 (31) := q2359
theorem llo0 : ∀ e ∈ llT0, xLl 0 e.1 e.2 := List.forall_mem_cons.mpr ⟨llp0_0, List.forall_mem_cons.mpr ⟨llp0_1, List.forall_mem_cons.mpr ⟨llp0_2, List.forall_mem_cons.mpr ⟨llp0_3, (fun _ h => by cases h)⟩⟩⟩⟩
def llT1 : List (Nat × Int64) := []
theorem llo1 : ∀ e ∈ llT1, xLl 1 e.1 e.2 := (fun _ h => by cases h)
def llT2 : List (Nat × Int64) := []
theorem llo2 : ∀ e ∈ llT2, xLl 2 e.1 e.2 := (fun _ h => by cases h)
def llT3 : List (Nat × Int64) := []
theorem llo3 : ∀ e ∈ llT3, xLl 3 e.1 e.2 := (fun _ h => by cases h)
def llT4 : List (Nat × Int64) := []
theorem llo4 : ∀ e ∈ llT4, xLl 4 e.1 e.2 := (fun _ h => by cases h)
def llT5 : List (Nat × Int64) := []
theorem llo5 : ∀ e ∈ llT5, xLl 5 e.1 e.2 := (fun _ h => by cases h)
def llT6 : List (Nat × Int64) := []
theorem llo6 : ∀ e ∈ llT6, xLl 6 e.1 e.2 := (fun _ h => by cases h)
def llT7 : List (Nat × Int64) := []
theorem llo7 : ∀ e ∈ llT7, xLl 7 e.1 e.2 := (fun _ h => by cases h)
def llT8 : List (Nat × Int64) := []
theorem llo8 : ∀ e ∈ llT8, xLl 8 e.1 e.2 := (fun _ h => by cases h)
def llT9 : List (Nat × Int64) := []
theorem llo9 : ∀ e ∈ llT9, xLl 9 e.1 e.2 := (fun _ h => by cases h)
def llT10 : List (Nat × Int64) := []
theorem llo10 : ∀ e ∈ llT10, xLl 10 e.1 e.2 := (fun _ h => by cases h)
def llT11 : List (Nat × Int64) := []
theorem llo11 : ∀ e ∈ llT11, xLl 11 e.1 e.2 := (fun _ h => by cases h)
def llT12 : List (Nat × Int64) := []
theorem llo12 : ∀ e ∈ llT12, xLl 12 e.1 e.2 := (fun _ h => by cases h)
def llT13 : List (Nat × Int64) := []
theorem llo13 : ∀ e ∈ llT13, xLl 13 e.1 e.2 := (fun _ h => by cases h)
def llT14 : List (Nat × Int64) := []
theorem llo14 : ∀ e ∈ llT14, xLl 14 e.1 e.2 := (fun _ h => by cases h)
def llT15 : List (Nat × Int64) := []
theorem llo15 : ∀ e ∈ llT15, xLl 15 e.1 e.2 := (fun _ h => by cases h)
def llT16 : List (Nat × Int64) := []
theorem llo16 : ∀ e ∈ llT16, xLl 16 e.1 e.2 := (fun _ h => by cases h)
def llT17 : List (Nat × Int64) := []
theorem llo17 : ∀ e ∈ llT17, xLl 17 e.1 e.2 := (fun _ h => by cases h)
def llT18 : List (Nat × Int64) := []
theorem llo18 : ∀ e ∈ llT18, xLl 18 e.1 e.2 := (fun _ h => by cases h)
def llT19 : List (Nat × Int64) := []
theorem llo19 : ∀ e ∈ llT19, xLl 19 e.1 e.2 := (fun _ h => by cases h)
def llT20 : List (Nat × Int64) := []
theorem llo20 : ∀ e ∈ llT20, xLl 20 e.1 e.2 := (fun _ h => by cases h)
def llT21 : List (Nat × Int64) := []
theorem llo21 : ∀ e ∈ llT21, xLl 21 e.1 e.2 := (fun _ h => by cases h)
def llT22 : List (Nat × Int64) := []
theorem llo22 : ∀ e ∈ llT22, xLl 22 e.1 e.2 := (fun _ h => by cases h)
def llT23 : List (Nat × Int64) := []
theorem llo23 : ∀ e ∈ llT23, xLl 23 e.1 e.2 := (fun _ h => by cases h)
def llT24 : List (Nat × Int64) := []
theorem llo24 : ∀ e ∈ llT24, xLl 24 e.1 e.2 := (fun _ h => by cases h)
def llT25 : List (Nat × Int64) := []
theorem llo25 : ∀ e ∈ llT25, xLl 25 e.1 e.2 := (fun _ h => by cases h)
def llT26 : List (Nat × Int64) := []
theorem llo26 : ∀ e ∈ llT26, xLl 26 e.1 e.2 := (fun _ h => by cases h)
def llT27 : List (Nat × Int64) := []
theorem llo27 : ∀ e ∈ llT27, xLl 27 e.1 e.2 := (fun _ h => by cases h)
def llT28 : List (Nat × Int64) := []
theorem llo28 : ∀ e ∈ llT28, xLl 28 e.1 e.2 := (fun _ h => by cases h)
def llT29 : List (Nat × Int64) := []
theorem llo29 : ∀ e ∈ llT29, xLl 29 e.1 e.2 := (fun _ h => by cases h)
def llT30 : List (Nat × Int64) := []
theorem llo30 : ∀ e ∈ llT30, xLl 30 e.1 e.2 := (fun _ h => by cases h)
def llT31 : List (Nat × Int64) := []
theorem llo31 : ∀ e ∈ llT31, xLl 31 e.1 e.2 := (fun _ h => by cases h)
def llT32 : List (Nat × Int64) := []
theorem llo32 : ∀ e ∈ llT32, xLl 32 e.1 e.2 := (fun _ h => by cases h)
def llT33 : List (Nat × Int64) := []
theorem llo33 : ∀ e ∈ llT33, xLl 33 e.1 e.2 := (fun _ h => by cases h)
def llT34 : List (Nat × Int64) := [(53, -999), (55, 999), (453, 811), (455, 31)]
theorem llp34_0 : xLl 34 53 (-999) := q3052
theorem llp34_1 : xLl 34 55 (999) := q3053
theorem llp34_2 : xLl 34 453 (811) := q3289
theorem llp34_3 : xLl 34 455 (31) := q3290
theorem llo34 : ∀ e ∈ llT34, xLl 34 e.1 e.2 := List.forall_mem_cons.mpr ⟨llp34_0, List.forall_mem_cons.mpr ⟨llp34_1, List.forall_mem_cons.mpr ⟨llp34_2, List.forall_mem_cons.mpr ⟨llp34_3, (fun _ h => by cases h)⟩⟩⟩⟩
def llT35 : List (Nat × Int64) := []
theorem llo35 : ∀ e ∈ llT35, xLl 35 e.1 e.2 := (fun _ h => by cases h)
def llT36 : List (Nat × Int64) := []
theorem llo36 : ∀ e ∈ llT36, xLl 36 e.1 e.2 := (fun _ h => by cases h)
def llT37 : List (Nat × Int64) := []
theorem llo37 : ∀ e ∈ llT37, xLl 37 e.1 e.2 := (fun _ h => by cases h)
def llT38 : List (Nat × Int64) := []
theorem llo38 : ∀ e ∈ llT38, xLl 38 e.1 e.2 := (fun _ h => by cases h)
def llT39 : List (Nat × Int64) := []
theorem llo39 : ∀ e ∈ llT39, xLl 39 e.1 e.2 := (fun _ h => by cases h)
def llT40 : List (Nat × Int64) := []
theorem llo40 : ∀ e ∈ llT40, xLl 40 e.1 e.2 := (fun _ h => by cases h)
def llT41 : List (Nat × Int64) := []
theorem llo41 : ∀ e ∈ llT41, xLl 41 e.1 e.2 := (fun _ h => by cases h)
def llT42 : List (Nat × Int64) := []
theorem llo42 : ∀ e ∈ llT42, xLl 42 e.1 e.2 := (fun _ h => by cases h)
def llT43 : List (Nat × Int64) := []
theorem llo43 : ∀ e ∈ llT43, xLl 43 e.1 e.2 := (fun _ h => by cases h)
def llT44 : List (Nat × Int64) := []
theorem llo44 : ∀ e ∈ llT44, xLl 44 e.1 e.2 := (fun _ h => by cases h)
def llT45 : List (Nat × Int64) := []
theorem llo45 : ∀ e ∈ llT45, xLl 45 e.1 e.2 := (fun _ h => by cases h)
def llT46 : List (Nat × Int64) := []
theorem llo46 : ∀ e ∈ llT46, xLl 46 e.1 e.2 := (fun _ h => by cases h)
def llT47 : List (Nat × Int64) := []
theorem llo47 : ∀ e ∈ llT47, xLl 47 e.1 e.2 := (fun _ h => by cases h)
def llT48 : List (Nat × Int64) := []
theorem llo48 : ∀ e ∈ llT48, xLl 48 e.1 e.2 := (fun _ h => by cases h)
def llT49 : List (Nat × Int64) := []
theorem llo49 : ∀ e ∈ llT49, xLl 49 e.1 e.2 := (fun _ h => by cases h)
def llT50 : List (Nat × Int64) := []
theorem llo50 : ∀ e ∈ llT50, xLl 50 e.1 e.2 := (fun _ h => by cases h)
def llT51 : List (Nat × Int64) := []
theorem llo51 : ∀ e ∈ llT51, xLl 51 e.1 e.2 := (fun _ h => by cases h)
def llT52 : List (Nat × Int64) := []
theorem llo52 : ∀ e ∈ llT52, xLl 52 e.1 e.2 := (fun _ h => by cases h)
def llT53 : List (Nat × Int64) := []
theorem llo53 : ∀ e ∈ llT53, xLl 53 e.1 e.2 := (fun _ h => by cases h)
def llT54 : List (Nat × Int64) := []
theorem llo54 : ∀ e ∈ llT54, xLl 54 e.1 e.2 := (fun _ h => by cases h)
def llT55 : List (Nat × Int64) := []
theorem llo55 : ∀ e ∈ llT55, xLl 55 e.1 e.2 := (fun _ h => by cases h)
def llT56 : List (Nat × Int64) := []
theorem llo56 : ∀ e ∈ llT56, xLl 56 e.1 e.2 := (fun _ h => by cases h)
def llT57 : List (Nat × Int64) := []
theorem llo57 : ∀ e ∈ llT57, xLl 57 e.1 e.2 := (fun _ h => by cases h)
def llT58 : List (Nat × Int64) := []
theorem llo58 : ∀ e ∈ llT58, xLl 58 e.1 e.2 := (fun _ h => by cases h)
def llT59 : List (Nat × Int64) := []
theorem llo59 : ∀ e ∈ llT59, xLl 59 e.1 e.2 := (fun _ h => by cases h)
def llT60 : List (Nat × Int64) := []
theorem llo60 : ∀ e ∈ llT60, xLl 60 e.1 e.2 := (fun _ h => by cases h)
def llT61 : List (Nat × Int64) := []
theorem llo61 : ∀ e ∈ llT61, xLl 61 e.1 e.2 := (fun _ h => by cases h)
def llT62 : List (Nat × Int64) := []
theorem llo62 : ∀ e ∈ llT62, xLl 62 e.1 e.2 := (fun _ h => by cases h)
def llT63 : List (Nat × Int64) := []
theorem llo63 : ∀ e ∈ llT63, xLl 63 e.1 e.2 := (fun _ h => by cases h)
def llT64 : List (Nat × Int64) := []
theorem llo64 : ∀ e ∈ llT64, xLl 64 e.1 e.2 := (fun _ h => by cases h)
def llT65 : List (Nat × Int64) := []
theorem llo65 : ∀ e ∈ llT65, xLl 65 e.1 e.2 := (fun _ h => by cases h)
def llT66 : List (Nat × Int64) := []
theorem llo66 : ∀ e ∈ llT66, xLl 66 e.1 e.2 := (fun _ h => by cases h)
def llT67 : List (Nat × Int64) := []
theorem llo67 : ∀ e ∈ llT67, xLl 67 e.1 e.2 := (fun _ h => by cases h)
def llT68 : List (Nat × Int64) := []
theorem llo68 : ∀ e ∈ llT68, xLl 68 e.1 e.2 := (fun _ h => by cases h)
def llT69 : List (Nat × Int64) := [(696, 7), (349, 3), (205, 4), (203, 2), (702, 6), (707, 5), (812, 4294967295), (810, 65535), (808, 255)]
theorem llp69_0 : xLl 69 696 (7) := q1354
theorem llp69_1 : xLl 69 349 (3) := q1359
theorem llp69_2 : xLl 69 205 (4) := q1364
theorem llp69_3 : xLl 69 203 (2) := q1381
theorem llp69_4 : xLl 69 702 (6) := q1382
theorem llp69_5 : xLl 69 707 (5) := q1394
theorem llp69_6 : xLl 69 812 (4294967295) := q1371
theorem llp69_7 : xLl 69 810 (65535) := q1389
theorem llp69_8 : xLl 69 808 (255) := q1401
theorem llo69 : ∀ e ∈ llT69, xLl 69 e.1 e.2 := List.forall_mem_cons.mpr ⟨llp69_0, List.forall_mem_cons.mpr ⟨llp69_1, List.forall_mem_cons.mpr ⟨llp69_2, List.forall_mem_cons.mpr ⟨llp69_3, List.forall_mem_cons.mpr ⟨llp69_4, List.forall_mem_cons.mpr ⟨llp69_5, List.forall_mem_cons.mpr ⟨llp69_6, List.forall_mem_cons.mpr ⟨llp69_7, List.forall_mem_cons.mpr ⟨llp69_8, (fun _ h => by cases h)⟩⟩⟩⟩⟩⟩⟩⟩⟩
def llT70 : List (Nat × Int64) := []
theorem llo70 : ∀ e ∈ llT70, xLl 70 e.1 e.2 := (fun _ h => by cases h)
def llT71 : List (Nat × Int64) := []
theorem llo71 : ∀ e ∈ llT71, xLl 71 e.1 e.2 := (fun _ h => by cases h)
def llL (oc : Nat) : List (Nat × Int64) := match oc with
  | 0 => llT0
  | 1 => llT1
  | 2 => llT2
  | 3 => llT3
  | 4 => llT4
  | 5 => llT5
  | 6 => llT6
  | 7 => llT7
  | 8 => llT8
  | 9 => llT9
  | 10 => llT10
  | 11 => llT11
  | 12 => llT12
  | 13 => llT13
  | 14 => llT14
  | 15 => llT15
  | 16 => llT16
  | 17 => llT17
  | 18 => llT18
  | 19 => llT19
  | 20 => llT20
  | 21 => llT21
  | 22 => llT22
  | 23 => llT23
  | 24 => llT24
  | 25 => llT25
  | 26 => llT26
  | 27 => llT27
  | 28 => llT28
  | 29 => llT29
  | 30 => llT30
  | 31 => llT31
  | 32 => llT32
  | 33 => llT33
  | 34 => llT34
  | 35 => llT35
  | 36 => llT36
  | 37 => llT37
  | 38 => llT38
  | 39 => llT39
  | 40 => llT40
  | 41 => llT41
  | 42 => llT42
  | 43 => llT43
  | 44 => llT44
  | 45 => llT45
  | 46 => llT46
  | 47 => llT47
  | 48 => llT48
  | 49 => llT49
  | 50 => llT50
  | 51 => llT51
  | 52 => llT52
  | 53 => llT53
  | 54 => llT54
  | 55 => llT55
  | 56 => llT56
  | 57 => llT57
  | 58 => llT58
  | 59 => llT59
  | 60 => llT60
  | 61 => llT61
  | 62 => llT62
  | 63 => llT63
  | 64 => llT64
  | 65 => llT65
  | 66 => llT66
  | 67 => llT67
  | 68 => llT68
  | 69 => llT69
  | 70 => llT70
  | 71 => llT71
  | _ => []
theorem llL_ok : ∀ oc, ∀ e ∈ llL oc, xLl oc e.1 e.2 := by
  intro oc
  unfold llL
  split
  · exact llo0
  · exact llo1
  · exact llo2
  · exact llo3
  · exact llo4
  · exact llo5
  · exact llo6
  · exact llo7
  · exact llo8
  · exact llo9
  · exact llo10
  · exact llo11
  · exact llo12
  · exact llo13
  · exact llo14
  · exact llo15
  · exact llo16
  · exact llo17
  · exact llo18
  · exact llo19
  · exact llo20
  · exact llo21
  · exact llo22
  · exact llo23
  · exact llo24
  · exact llo25
  · exact llo26
  · exact llo27
  · exact llo28
  · exact llo29
  · exact llo30
  · exact llo31
  · exact llo32
  · exact llo33
  · exact llo34
  · exact llo35
  · exact llo36
  · exact llo37
  · exact llo38
  · exact llo39
  · exact llo40
  · exact llo41
  · exact llo42
  · exact llo43
  · exact llo44
  · exact llo45
  · exact llo46
  · exact llo47
  · exact llo48
  · exact llo49
  · exact llo50
  · exact llo51
  · exact llo52
  · exact llo53
  · exact llo54
  · exact llo55
  · exact llo56
  · exact llo57
  · exact llo58
  · exact llo59
  · exact llo60
  · exact llo61
  · exact llo62
  · exact llo63
  · exact llo64
  · exact llo65
  · exact llo66
  · exact llo67
  · exact llo68
  · exact llo69
  · exact llo70
  · exact llo71
  · intro e h; cases h
def xLf (oc idx : Nat) (v : UInt32) : Prop := Cond.constantFloat (ocN oc) idx v ∈ lw_all
def lfT0 : List (Nat × UInt32) := []
theorem lfo0 : ∀ e ∈ lfT0, xLf 0 e.1 e.2 := (fun _ h => by cases h)
def lfT1 : List (Nat × UInt32) := []
theorem lfo1 : ∀ e ∈ lfT1, xLf 1 e.1 e.2 := (fun _ h => by cases h)
def lfT2 : List (Nat × UInt32) := []
theorem lfo2 : ∀ e ∈ lfT2, xLf 2 e.1 e.2 := (fun _ h => by cases h)
def lfT3 : List (Nat × UInt32) := []
theorem lfo3 : ∀ e ∈ lfT3, xLf 3 e.1 e.2 := (fun _ h => by cases h)
def lfT4 : List (Nat × UInt32) := []
theorem lfo4 : ∀ e ∈ lfT4, xLf 4 e.1 e.2 := (fun _ h => by cases h)
def lfT5 : List (Nat × UInt32) := []
theorem lfo5 : ∀ e ∈ lfT5, xLf 5 e.1 e.2 := (fun _ h => by cases h)
def lfT6 : List (Nat × UInt32) := []
theorem lfo6 : ∀ e ∈ lfT6, xLf 6 e.1 e.2 := (fun _ h => by cases h)
def lfT7 : List (Nat × UInt32) := []
theorem lfo7 : ∀ e ∈ lfT7, xLf 7 e.1 e.2 := (fun _ h => by cases h)
def lfT8 : List (Nat × UInt32) := []
theorem lfo8 : ∀ e ∈ lfT8, xLf 8 e.1 e.2 := (fun _ h => by cases h)
def lfT9 : List (Nat × UInt32) := []
theorem lfo9 : ∀ e ∈ lfT9, xLf 9 e.1 e.2 := (fun _ h => by cases h)
def lfT10 : List (Nat × UInt32) := []
theorem lfo10 : ∀ e ∈ lfT10, xLf 10 e.1 e.2 := (fun _ h => by cases h)
def lfT11 : List (Nat × UInt32) := []
theorem lfo11 : ∀ e ∈ lfT11, xLf 11 e.1 e.2 := (fun _ h => by cases h)
def lfT12 : List (Nat × UInt32) := []
theorem lfo12 : ∀ e ∈ lfT12, xLf 12 e.1 e.2 := (fun _ h => by cases h)
def lfT13 : List (Nat × UInt32) := []
theorem lfo13 : ∀ e ∈ lfT13, xLf 13 e.1 e.2 := (fun _ h => by cases h)
def lfT14 : List (Nat × UInt32) := []
theorem lfo14 : ∀ e ∈ lfT14, xLf 14 e.1 e.2 := (fun _ h => by cases h)
def lfT15 : List (Nat × UInt32) := []
theorem lfo15 : ∀ e ∈ lfT15, xLf 15 e.1 e.2 := (fun _ h => by cases h)
def lfT16 : List (Nat × UInt32) := []
theorem lfo16 : ∀ e ∈ lfT16, xLf 16 e.1 e.2 := (fun _ h => by cases h)
def lfT17 : List (Nat × UInt32) := []
theorem lfo17 : ∀ e ∈ lfT17, xLf 17 e.1 e.2 := (fun _ h => by cases h)
def lfT18 : List (Nat × UInt32) := []
theorem lfo18 : ∀ e ∈ lfT18, xLf 18 e.1 e.2 := (fun _ h => by cases h)
def lfT19 : List (Nat × UInt32) := []
theorem lfo19 : ∀ e ∈ lfT19, xLf 19 e.1 e.2 := (fun _ h => by cases h)
def lfT20 : List (Nat × UInt32) := []
theorem lfo20 : ∀ e ∈ lfT20, xLf 20 e.1 e.2 := (fun _ h => by cases h)
def lfT21 : List (Nat × UInt32) := []
theorem lfo21 : ∀ e ∈ lfT21, xLf 21 e.1 e.2 := (fun _ h => by cases h)
def lfT22 : List (Nat × UInt32) := []
theorem lfo22 : ∀ e ∈ lfT22, xLf 22 e.1 e.2 := (fun _ h => by cases h)
def lfT23 : List (Nat × UInt32) := []
theorem lfo23 : ∀ e ∈ lfT23, xLf 23 e.1 e.2 := (fun _ h => by cases h)
def lfT24 : List (Nat × UInt32) := []
theorem lfo24 : ∀ e ∈ lfT24, xLf 24 e.1 e.2 := (fun _ h => by cases h)
def lfT25 : List (Nat × UInt32) := []
theorem lfo25 : ∀ e ∈ lfT25, xLf 25 e.1 e.2 := (fun _ h => by cases h)
def lfT26 : List (Nat × UInt32) := []
theorem lfo26 : ∀ e ∈ lfT26, xLf 26 e.1 e.2 := (fun _ h => by cases h)
def lfT27 : List (Nat × UInt32) := []
theorem lfo27 : ∀ e ∈ lfT27, xLf 27 e.1 e.2 := (fun _ h => by cases h)
def lfT28 : List (Nat × UInt32) := []
theorem lfo28 : ∀ e ∈ lfT28, xLf 28 e.1 e.2 := (fun _ h => by cases h)
def lfT29 : List (Nat × UInt32) := []
theorem lfo29 : ∀ e ∈ lfT29, xLf 29 e.1 e.2 := (fun _ h => by cases h)
def lfT30 : List (Nat × UInt32) := []
theorem lfo30 : ∀ e ∈ lfT30, xLf 30 e.1 e.2 := (fun _ h => by cases h)
def lfT31 : List (Nat × UInt32) := []
theorem lfo31 : ∀ e ∈ lfT31, xLf 31 e.1 e.2 := (fun _ h => by cases h)
def lfT32 : List (Nat × UInt32) := []
theorem lfo32 : ∀ e ∈ lfT32, xLf 32 e.1 e.2 := (fun _ h => by cases h)
def lfT33 : List (Nat × UInt32) := []
theorem lfo33 : ∀ e ∈ lfT33, xLf 33 e.1 e.2 := (fun _ h => by cases h)
def lfT34 : List (Nat × UInt32) := []
theorem lfo34 : ∀ e ∈ lfT34, xLf 34 e.1 e.2 := (fun _ h => by cases h)
def lfT35 : List (Nat × UInt32) := []
theorem lfo35 : ∀ e ∈ lfT35, xLf 35 e.1 e.2 := (fun _ h => by cases h)
def lfT36 : List (Nat × UInt32) := []
theorem lfo36 : ∀ e ∈ lfT36, xLf 36 e.1 e.2 := (fun _ h => by cases h)
def lfT37 : List (Nat × UInt32) := []
theorem lfo37 : ∀ e ∈ lfT37, xLf 37 e.1 e.2 := (fun _ h => by cases h)
def lfT38 : List (Nat × UInt32) := []
theorem lfo38 : ∀ e ∈ lfT38, xLf 38 e.1 e.2 := (fun _ h => by cases h)
def lfT39 : List (Nat × UInt32) := []
theorem lfo39 : ∀ e ∈ lfT39, xLf 39 e.1 e.2 := (fun _ h => by cases h)
def lfT40 : List (Nat × UInt32) := []
theorem lfo40 : ∀ e ∈ lfT40, xLf 40 e.1 e.2 := (fun _ h => by cases h)
def lfT41 : List (Nat × UInt32) := []
theorem lfo41 : ∀ e ∈ lfT41, xLf 41 e.1 e.2 := (fun _ h => by cases h)
def lfT42 : List (Nat × UInt32) := []
theorem lfo42 : ∀ e ∈ lfT42, xLf 42 e.1 e.2 := (fun _ h => by cases h)
def lfT43 : List (Nat × UInt32) := []
theorem lfo43 : ∀ e ∈ lfT43, xLf 43 e.1 e.2 := (fun _ h => by cases h)
def lfT44 : List (Nat × UInt32) := []
theorem lfo44 : ∀ e ∈ lfT44, xLf 44 e.1 e.2 := (fun _ h => by cases h)
def lfT45 : List (Nat × UInt32) := []
theorem lfo45 : ∀ e ∈ lfT45, xLf 45 e.1 e.2 := (fun _ h => by cases h)
def lfT46 : List (Nat × UInt32) := []
theorem lfo46 : ∀ e ∈ lfT46, xLf 46 e.1 e.2 := (fun _ h => by cases h)
def lfT47 : List (Nat × UInt32) := []
theorem lfo47 : ∀ e ∈ lfT47, xLf 47 e.1 e.2 := (fun _ h => by cases h)
def lfT48 : List (Nat × UInt32) := []
theorem lfo48 : ∀ e ∈ lfT48, xLf 48 e.1 e.2 := (fun _ h => by cases h)
def lfT49 : List (Nat × UInt32) := []
theorem lfo49 : ∀ e ∈ lfT49, xLf 49 e.1 e.2 := (fun _ h => by cases h)
def lfT50 : List (Nat × UInt32) := []
theorem lfo50 : ∀ e ∈ lfT50, xLf 50 e.1 e.2 := (fun _ h => by cases h)
def lfT51 : List (Nat × UInt32) := []
theorem lfo51 : ∀ e ∈ lfT51, xLf 51 e.1 e.2 := (fun _ h => by cases h)
def lfT52 : List (Nat × UInt32) := []
theorem lfo52 : ∀ e ∈ lfT52, xLf 52 e.1 e.2 := (fun _ h => by cases h)
def lfT53 : List (Nat × UInt32) := []
theorem lfo53 : ∀ e ∈ lfT53, xLf 53 e.1 e.2 := (fun _ h => by cases h)
def lfT54 : List (Nat × UInt32) := []
theorem lfo54 : ∀ e ∈ lfT54, xLf 54 e.1 e.2 := (fun _ h => by cases h)
def lfT55 : List (Nat × UInt32) := []
theorem lfo55 : ∀ e ∈ lfT55, xLf 55 e.1 e.2 := (fun _ h => by cases h)
def lfT56 : List (Nat × UInt32) := []
theorem lfo56 : ∀ e ∈ lfT56, xLf 56 e.1 e.2 := (fun _ h => by cases h)
def lfT57 : List (Nat × UInt32) := []
theorem lfo57 : ∀ e ∈ lfT57, xLf 57 e.1 e.2 := (fun _ h => by cases h)
def lfT58 : List (Nat × UInt32) := []
theorem lfo58 : ∀ e ∈ lfT58, xLf 58 e.1 e.2 := (fun _ h => by cases h)
def lfT59 : List (Nat × UInt32) := []
theorem lfo59 : ∀ e ∈ lfT59, xLf 59 e.1 e.2 := (fun _ h => by cases h)
def lfT60 : List (Nat × UInt32) := []
theorem lfo60 : ∀ e ∈ lfT60, xLf 60 e.1 e.2 := (fun _ h => by cases h)
def lfT61 : List (Nat × UInt32) := []
theorem lfo61 : ∀ e ∈ lfT61, xLf 61 e.1 e.2 := (fun _ h => by cases h)
def lfT62 : List (Nat × UInt32) := []
theorem lfo62 : ∀ e ∈ lfT62, xLf 62 e.1 e.2 := (fun _ h => by cases h)
def lfT63 : List (Nat × UInt32) := [(92, 1061158912), (210, 1317011456)]
theorem lfp63_0 : xLf 63 92 1061158912 := q880
theorem lfp63_1 : xLf 63 210 1317011456 := q1819
theorem lfo63 : ∀ e ∈ lfT63, xLf 63 e.1 e.2 := List.forall_mem_cons.mpr ⟨lfp63_0, List.forall_mem_cons.mpr ⟨lfp63_1, (fun _ h => by cases h)⟩⟩
def lfT64 : List (Nat × UInt32) := []
theorem lfo64 : ∀ e ∈ lfT64, xLf 64 e.1 e.2 := (fun _ h => by cases h)
def lfT65 : List (Nat × UInt32) := []
theorem lfo65 : ∀ e ∈ lfT65, xLf 65 e.1 e.2 := (fun _ h => by cases h)
def lfT66 : List (Nat × UInt32) := []
theorem lfo66 : ∀ e ∈ lfT66, xLf 66 e.1 e.2 := (fun _ h => by cases h)
def lfT67 : List (Nat × UInt32) := []
theorem lfo67 : ∀ e ∈ lfT67, xLf 67 e.1 e.2 := (fun _ h => by cases h)
def lfT68 : List (Nat × UInt32) := []
theorem lfo68 : ∀ e ∈ lfT68, xLf 68 e.1 e.2 := (fun _ h => by cases h)
def lfT69 : List (Nat × UInt32) := []
theorem lfo69 : ∀ e ∈ lfT69, xLf 69 e.1 e.2 := (fun _ h => by cases h)
def lfT70 : List (Nat × UInt32) := []
theorem lfo70 : ∀ e ∈ lfT70, xLf 70 e.1 e.2 := (fun _ h => by cases h)
def lfT71 : List (Nat × UInt32) := []
theorem lfo71 : ∀ e ∈ lfT71, xLf 71 e.1 e.2 := (fun _ h => by cases h)
def lfL (oc : Nat) : List (Nat × UInt32) := match oc with
  | 0 => lfT0
  | 1 => lfT1
  | 2 => lfT2
  | 3 => lfT3
  | 4 => lfT4
  | 5 => lfT5
  | 6 => lfT6
  | 7 => lfT7
  | 8 => lfT8
  | 9 => lfT9
  | 10 => lfT10
  | 11 => lfT11
  | 12 => lfT12
  | 13 => lfT13
  | 14 => lfT14
  | 15 => lfT15
  | 16 => lfT16
  | 17 => lfT17
  | 18 => lfT18
  | 19 => lfT19
  | 20 => lfT20
  | 21 => lfT21
  | 22 => lfT22
  | 23 => lfT23
  | 24 => lfT24
  | 25 => lfT25
  | 26 => lfT26
  | 27 => lfT27
  | 28 => lfT28
  | 29 => lfT29
  | 30 => lfT30
  | 31 => lfT31
  | 32 => lfT32
  | 33 => lfT33
  | 34 => lfT34
  | 35 => lfT35
  | 36 => lfT36
  | 37 => lfT37
  | 38 => lfT38
  | 39 => lfT39
  | 40 => lfT40
  | 41 => lfT41
  | 42 => lfT42
  | 43 => lfT43
  | 44 => lfT44
  | 45 => lfT45
  | 46 => lfT46
  | 47 => lfT47
  | 48 => lfT48
  | 49 => lfT49
  | 50 => lfT50
  | 51 => lfT51
  | 52 => lfT52
  | 53 => lfT53
  | 54 => lfT54
  | 55 => lfT55
  | 56 => lfT56
  | 57 => lfT57
  | 58 => lfT58
  | 59 => lfT59
  | 60 => lfT60
  | 61 => lfT61
  | 62 => lfT62
  | 63 => lfT63
  | 64 => lfT64
  | 65 => lfT65
  | 66 => lfT66
  | 67 => lfT67
  | 68 => lfT68
  | 69 => lfT69
  | 70 => lfT70
  | 71 => lfT71
  | _ => []
theorem lfL_ok : ∀ oc, ∀ e ∈ lfL oc, xLf oc e.1 e.2 := by
  intro oc
  unfold lfL
  split
  · exact lfo0
  · exact lfo1
  · exact lfo2
  · exact lfo3
  · exact lfo4
  · exact lfo5
  · exact lfo6
  · exact lfo7
  · exact lfo8
  · exact lfo9
  · exact lfo10
  · exact lfo11
  · exact lfo12
  · exact lfo13
  · exact lfo14
  · exact lfo15
  · exact lfo16
  · exact lfo17
  · exact lfo18
  · exact lfo19
  · exact lfo20
  · exact lfo21
  · exact lfo22
  · exact lfo23
  · exact lfo24
  · exact lfo25
  · exact lfo26
  · exact lfo27
  · exact lfo28
  · exact lfo29
  · exact lfo30
  · exact lfo31
  · exact lfo32
  · exact lfo33
  · exact lfo34
  · exact lfo35
  · exact lfo36
  · exact lfo37
  · exact lfo38
  · exact lfo39
  · exact lfo40
  · exact lfo41
  · exact lfo42
  · exact lfo43
  · exact lfo44
  · exact lfo45
  · exact lfo46
  · exact lfo47
  · exact lfo48
  · exact lfo49
  · exact lfo50
  · exact lfo51
  · exact lfo52
  · exact lfo53
  · exact lfo54
  · exact lfo55
  · exact lfo56
  · exact lfo57
  · exact lfo58
  · exact lfo59
  · exact lfo60
  · exact lfo61
  · exact lfo62
  · exact lfo63
  · exact lfo64
  · exact lfo65
  · exact lfo66
  · exact lfo67
  · exact lfo68
  · exact lfo69
  · exact lfo70
  · exact lfo71
  · intro e h; cases h
def xLs (oc idx i : Nat) : Prop := ∃ t : String, TX[i]? = some (ocN oc, idx, t)
def ltT0 : List (Nat × Nat) := []
theorem lto0 : ∀ e ∈ ltT0, xLs 0 e.1 e.2 := (fun _ h => by cases h)
def ltT1 : List (Nat × Nat) := []
theorem lto1 : ∀ e ∈ ltT1, xLs 1 e.1 e.2 := (fun _ h => by cases h)
def ltT2 : List (Nat × Nat) := []
theorem lto2 : ∀ e ∈ ltT2, xLs 2 e.1 e.2 := (fun _ h => by cases h)
def ltT3 : List (Nat × Nat) := []
theorem lto3 : ∀ e ∈ ltT3, xLs 3 e.1 e.2 := (fun _ h => by cases h)
def ltT4 : List (Nat × Nat) := []
theorem lto4 : ∀ e ∈ ltT4, xLs 4 e.1 e.2 := (fun _ h => by cases h)
def ltT5 : List (Nat × Nat) := []
theorem lto5 : ∀ e ∈ ltT5, xLs 5 e.1 e.2 := (fun _ h => by cases h)
def ltT6 : List (Nat × Nat) := []
theorem lto6 : ∀ e ∈ ltT6, xLs 6 e.1 e.2 := (fun _ h => by cases h)
def ltT7 : List (Nat × Nat) := []
theorem lto7 : ∀ e ∈ ltT7, xLs 7 e.1 e.2 := (fun _ h => by cases h)
def ltT8 : List (Nat × Nat) := []
theorem lto8 : ∀ e ∈ ltT8, xLs 8 e.1 e.2 := (fun _ h => by cases h)
def ltT9 : List (Nat × Nat) := []
theorem lto9 : ∀ e ∈ ltT9, xLs 9 e.1 e.2 := (fun _ h => by cases h)
def ltT10 : List (Nat × Nat) := []
theorem lto10 : ∀ e ∈ ltT10, xLs 10 e.1 e.2 := (fun _ h => by cases h)
def ltT11 : List (Nat × Nat) := []
theorem lto11 : ∀ e ∈ ltT11, xLs 11 e.1 e.2 := (fun _ h => by cases h)
def ltT12 : List (Nat × Nat) := [(141, 0), (145, 1), (153, 2), (159, 3), (164, 4), (324, 19), (326, 20), (345, 21), (347, 22), (369, 23), (407, 24), (409, 25), (180, 5), (214, 6), (222, 7), (230, 8), (235, 9), (237, 10), (247, 11), (272, 12), (277, 13), (279, 14), (289, 15), (291, 16), (296, 17), (304, 18)]
theorem ltp12_0 : xLs 12 141 0 := ⟨_, rfl⟩
theorem ltp12_1 : xLs 12 145 1 := ⟨_, rfl⟩
theorem ltp12_2 : xLs 12 153 2 := ⟨_, rfl⟩
theorem ltp12_3 : xLs 12 159 3 := ⟨_, rfl⟩
theorem ltp12_4 : xLs 12 164 4 := ⟨_, rfl⟩
theorem ltp12_5 : xLs 12 324 19 := ⟨_, rfl⟩
theorem ltp12_6 : xLs 12 326 20 := ⟨_, rfl⟩
theorem ltp12_7 : xLs 12 345 21 := ⟨_, rfl⟩
theorem ltp12_8 : xLs 12 347 22 := ⟨_, rfl⟩
theorem ltp12_9 : xLs 12 369 23 := ⟨_, rfl⟩
theorem ltp12_10 : xLs 12 407 24 := ⟨_, rfl⟩
theorem ltp12_11 : xLs 12 409 25 := ⟨_, rfl⟩
theorem ltp12_12 : xLs 12 180 5 := ⟨_, rfl⟩
theorem ltp12_13 : xLs 12 214 6 := ⟨_, rfl⟩
theorem ltp12_14 : xLs 12 222 7 := ⟨_, rfl⟩
theorem ltp12_15 : xLs 12 230 8 := ⟨_, rfl⟩
theorem ltp12_16 : xLs 12 235 9 := ⟨_, rfl⟩
theorem ltp12_17 : xLs 12 237 10 := ⟨_, rfl⟩
theorem ltp12_18 : xLs 12 247 11 := ⟨_, rfl⟩
theorem ltp12_19 : xLs 12 272 12 := ⟨_, rfl⟩
theorem ltp12_20 : xLs 12 277 13 := ⟨_, rfl⟩
theorem ltp12_21 : xLs 12 279 14 := ⟨_, rfl⟩
theorem ltp12_22 : xLs 12 289 15 := ⟨_, rfl⟩
theorem ltp12_23 : xLs 12 291 16 := ⟨_, rfl⟩
theorem ltp12_24 : xLs 12 296 17 := ⟨_, rfl⟩
theorem ltp12_25 : xLs 12 304 18 := ⟨_, rfl⟩
theorem lto12 : ∀ e ∈ ltT12, xLs 12 e.1 e.2 := List.forall_mem_cons.mpr ⟨ltp12_0, List.forall_mem_cons.mpr ⟨ltp12_1, List.forall_mem_cons.mpr ⟨ltp12_2, List.forall_mem_cons.mpr ⟨ltp12_3, List.forall_mem_cons.mpr ⟨ltp12_4, List.forall_mem_cons.mpr ⟨ltp12_5, List.forall_mem_cons.mpr ⟨ltp12_6, List.forall_mem_cons.mpr ⟨ltp12_7, List.forall_mem_cons.mpr ⟨ltp12_8, List.forall_mem_cons.mpr ⟨ltp12_9, List.forall_mem_cons.mpr ⟨ltp12_10, List.forall_mem_cons.mpr ⟨ltp12_11, List.forall_mem_cons.mpr ⟨ltp12_12, List.forall_mem_cons.mpr ⟨ltp12_13, List.forall_mem_cons.mpr ⟨ltp12_14, List.forall_mem_cons.mpr ⟨ltp12_15, List.forall_mem_cons.mpr ⟨ltp12_16, List.forall_mem_cons.mpr ⟨ltp12_17, List.forall_mem_cons.mpr ⟨ltp12_18, List.forall_mem_cons.mpr ⟨ltp12_19, List.forall_mem_cons.mpr ⟨ltp12_20, List.forall_mem_cons.mpr ⟨ltp12_21, List.forall_mem_cons.mpr ⟨ltp12_22, List.forall_mem_cons.mpr ⟨ltp12_23, List.forall_mem_cons.mpr ⟨ltp12_24, List.forall_mem_cons.mpr ⟨ltp12_25, (fun _ h => by cases h)⟩⟩⟩⟩⟩⟩⟩⟩⟩⟩⟩⟩⟩⟩⟩⟩⟩⟩⟩⟩⟩⟩⟩⟩⟩⟩
def ltT13 : List (Nat × Nat) := [(75, 26), (104, 27)]
theorem ltp13_0 : xLs 13 75 26 := ⟨_, rfl⟩
theorem ltp13_1 : xLs 13 104 27 := ⟨_, rfl⟩
theorem lto13 : ∀ e ∈ ltT13, xLs 13 e.1 e.2 := List.forall_mem_cons.mpr ⟨ltp13_0, List.forall_mem_cons.mpr ⟨ltp13_1, (fun _ h => by cases h)⟩⟩
def ltT14 : List (Nat × Nat) := []
theorem lto14 : ∀ e ∈ ltT14, xLs 14 e.1 e.2 := (fun _ h => by cases h)
def ltT15 : List (Nat × Nat) := []
theorem lto15 : ∀ e ∈ ltT15, xLs 15 e.1 e.2 := (fun _ h => by cases h)
def ltT16 : List (Nat × Nat) := []
theorem lto16 : ∀ e ∈ ltT16, xLs 16 e.1 e.2 := (fun _ h => by cases h)
def ltT17 : List (Nat × Nat) := []
theorem lto17 : ∀ e ∈ ltT17, xLs 17 e.1 e.2 := (fun _ h => by cases h)
def ltT18 : List (Nat × Nat) := []
theorem lto18 : ∀ e ∈ ltT18, xLs 18 e.1 e.2 := (fun _ h => by cases h)
def ltT19 : List (Nat × Nat) := []
theorem lto19 : ∀ e ∈ ltT19, xLs 19 e.1 e.2 := (fun _ h => by cases h)
def ltT20 : List (Nat × Nat) := []
theorem lto20 : ∀ e ∈ ltT20, xLs 20 e.1 e.2 := (fun _ h => by cases h)
def ltT21 : List (Nat × Nat) := []
theorem lto21 : ∀ e ∈ ltT21, xLs 21 e.1 e.2 := (fun _ h => by cases h)
def ltT22 : List (Nat × Nat) := []
theorem lto22 : ∀ e ∈ ltT22, xLs 22 e.1 e.2 := (fun _ h => by cases h)
def ltT23 : List (Nat × Nat) := []
theorem lto23 : ∀ e ∈ ltT23, xLs 23 e.1 e.2 := (fun _ h => by cases h)
def ltT24 : List (Nat × Nat) := []
theorem lto24 : ∀ e ∈ ltT24, xLs 24 e.1 e.2 := (fun _ h => by cases h)
def ltT25 : List (Nat × Nat) := []
theorem lto25 : ∀ e ∈ ltT25, xLs 25 e.1 e.2 := (fun _ h => by cases h)
def ltT26 : List (Nat × Nat) := []
theorem lto26 : ∀ e ∈ ltT26, xLs 26 e.1 e.2 := (fun _ h => by cases h)
def ltT27 : List (Nat × Nat) := []
theorem lto27 : ∀ e ∈ ltT27, xLs 27 e.1 e.2 := (fun _ h => by cases h)
def ltT28 : List (Nat × Nat) := []
theorem lto28 : ∀ e ∈ ltT28, xLs 28 e.1 e.2 := (fun _ h => by cases h)
def ltT29 : List (Nat × Nat) := []
theorem lto29 : ∀ e ∈ ltT29, xLs 29 e.1 e.2 := (fun _ h => by cases h)
def ltT30 : List (Nat × Nat) := []
theorem lto30 : ∀ e ∈ ltT30, xLs 30 e.1 e.2 := (fun _ h => by cases h)
def ltT31 : List (Nat × Nat) := []
theorem lto31 : ∀ e ∈ ltT31, xLs 31 e.1 e.2 := (fun _ h => by cases h)
def ltT32 : List (Nat × Nat) := []
theorem lto32 : ∀ e ∈ ltT32, xLs 32 e.1 e.2 := (fun _ h => by cases h)
def ltT33 : List (Nat × Nat) := []
theorem lto33 : ∀ e ∈ ltT33, xLs 33 e.1 e.2 := (fun _ h => by cases h)
def ltT34 : List (Nat × Nat) := [(242, 57)]
theorem ltp34_0 : xLs 34 242 57 := ⟨_, rfl⟩
theorem lto34 : ∀ e ∈ ltT34, xLs 34 e.1 e.2 := List.forall_mem_cons.mpr ⟨ltp34_0, (fun _ h => by cases h)⟩
def ltT35 : List (Nat × Nat) := []
theorem lto35 : ∀ e ∈ ltT35, xLs 35 e.1 e.2 := (fun _ h => by cases h)
def ltT36 : List (Nat × Nat) := []
theorem lto36 : ∀ e ∈ ltT36, xLs 36 e.1 e.2 := (fun _ h => by cases h)
def ltT37 : List (Nat × Nat) := []
theorem lto37 : ∀ e ∈ ltT37, xLs 37 e.1 e.2 := (fun _ h => by cases h)
def ltT38 : List (Nat × Nat) := []
theorem lto38 : ∀ e ∈ ltT38, xLs 38 e.1 e.2 := (fun _ h => by cases h)
def ltT39 : List (Nat × Nat) := []
theorem lto39 : ∀ e ∈ ltT39, xLs 39 e.1 e.2 := (fun _ h => by cases h)
def ltT40 : List (Nat × Nat) := []
theorem lto40 : ∀ e ∈ ltT40, xLs 40 e.1 e.2 := (fun _ h => by cases h)
def ltT41 : List (Nat × Nat) := []
theorem lto41 : ∀ e ∈ ltT41, xLs 41 e.1 e.2 := (fun _ h => by cases h)
def ltT42 : List (Nat × Nat) := []
theorem lto42 : ∀ e ∈ ltT42, xLs 42 e.1 e.2 := (fun _ h => by cases h)
def ltT43 : List (Nat × Nat) := []
theorem lto43 : ∀ e ∈ ltT43, xLs 43 e.1 e.2 := (fun _ h => by cases h)
def ltT44 : List (Nat × Nat) := []
theorem lto44 : ∀ e ∈ ltT44, xLs 44 e.1 e.2 := (fun _ h => by cases h)
def ltT45 : List (Nat × Nat) := []
theorem lto45 : ∀ e ∈ ltT45, xLs 45 e.1 e.2 := (fun _ h => by cases h)
def ltT46 : List (Nat × Nat) := []
theorem lto46 : ∀ e ∈ ltT46, xLs 46 e.1 e.2 := (fun _ h => by cases h)
def ltT47 : List (Nat × Nat) := []
theorem lto47 : ∀ e ∈ ltT47, xLs 47 e.1 e.2 := (fun _ h => by cases h)
def ltT48 : List (Nat × Nat) := []
theorem lto48 : ∀ e ∈ ltT48, xLs 48 e.1 e.2 := (fun _ h => by cases h)
def ltT49 : List (Nat × Nat) := []
theorem lto49 : ∀ e ∈ ltT49, xLs 49 e.1 e.2 := (fun _ h => by cases h)
def ltT50 : List (Nat × Nat) := []
theorem lto50 : ∀ e ∈ ltT50, xLs 50 e.1 e.2 := (fun _ h => by cases h)
def ltT51 : List (Nat × Nat) := []
theorem lto51 : ∀ e ∈ ltT51, xLs 51 e.1 e.2 := (fun _ h => by cases h)
def ltT52 : List (Nat × Nat) := []
theorem lto52 : ∀ e ∈ ltT52, xLs 52 e.1 e.2 := (fun _ h => by cases h)
def ltT53 : List (Nat × Nat) := []
theorem lto53 : ∀ e ∈ ltT53, xLs 53 e.1 e.2 := (fun _ h => by cases h)
def ltT54 : List (Nat × Nat) := []
theorem lto54 : ∀ e ∈ ltT54, xLs 54 e.1 e.2 := (fun _ h => by cases h)
def ltT55 : List (Nat × Nat) := []
theorem lto55 : ∀ e ∈ ltT55, xLs 55 e.1 e.2 := (fun _ h => by cases h)
def ltT56 : List (Nat × Nat) := []
theorem lto56 : ∀ e ∈ ltT56, xLs 56 e.1 e.2 := (fun _ h => by cases h)
def ltT57 : List (Nat × Nat) := []
theorem lto57 : ∀ e ∈ ltT57, xLs 57 e.1 e.2 := (fun _ h => by cases h)
def ltT58 : List (Nat × Nat) := []
theorem lto58 : ∀ e ∈ ltT58, xLs 58 e.1 e.2 := (fun _ h => by cases h)
def ltT59 : List (Nat × Nat) := []
theorem lto59 : ∀ e ∈ ltT59, xLs 59 e.1 e.2 := (fun _ h => by cases h)
def ltT60 : List (Nat × Nat) := []
theorem lto60 : ∀ e ∈ ltT60, xLs 60 e.1 e.2 := (fun _ h => by cases h)
def ltT61 : List (Nat × Nat) := []
theorem lto61 : ∀ e ∈ ltT61, xLs 61 e.1 e.2 := (fun _ h => by cases h)
def ltT62 : List (Nat × Nat) := [(337, 78)]
theorem ltp62_0 : xLs 62 337 78 := ⟨_, rfl⟩
theorem lto62 : ∀ e ∈ ltT62, xLs 62 e.1 e.2 := List.forall_mem_cons.mpr ⟨ltp62_0, (fun _ h => by cases h)⟩
def ltT63 : List (Nat × Nat) := []
theorem lto63 : ∀ e ∈ ltT63, xLs 63 e.1 e.2 := (fun _ h => by cases h)
def ltT64 : List (Nat × Nat) := []
theorem lto64 : ∀ e ∈ ltT64, xLs 64 e.1 e.2 := (fun _ h => by cases h)
def ltT65 : List (Nat × Nat) := []
theorem lto65 : ∀ e ∈ ltT65, xLs 65 e.1 e.2 := (fun _ h => by cases h)
def ltT66 : List (Nat × Nat) := []
theorem lto66 : ∀ e ∈ ltT66, xLs 66 e.1 e.2 := (fun _ h => by cases h)
def ltT67 : List (Nat × Nat) := []
theorem lto67 : ∀ e ∈ ltT67, xLs 67 e.1 e.2 := (fun _ h => by cases h)
def ltT68 : List (Nat × Nat) := []
theorem lto68 : ∀ e ∈ ltT68, xLs 68 e.1 e.2 := (fun _ h => by cases h)
def ltT69 : List (Nat × Nat) := []
theorem lto69 : ∀ e ∈ ltT69, xLs 69 e.1 e.2 := (fun _ h => by cases h)
def ltT70 : List (Nat × Nat) := [(92, 79)]
theorem ltp70_0 : xLs 70 92 79 := ⟨_, rfl⟩
theorem lto70 : ∀ e ∈ ltT70, xLs 70 e.1 e.2 := List.forall_mem_cons.mpr ⟨ltp70_0, (fun _ h => by cases h)⟩
def ltT71 : List (Nat × Nat) := []
theorem lto71 : ∀ e ∈ ltT71, xLs 71 e.1 e.2 := (fun _ h => by cases h)
def ltL (oc : Nat) : List (Nat × Nat) := match oc with
  | 0 => ltT0
  | 1 => ltT1
  | 2 => ltT2
  | 3 => ltT3
  | 4 => ltT4
  | 5 => ltT5
  | 6 => ltT6
  | 7 => ltT7
  | 8 => ltT8
  | 9 => ltT9
  | 10 => ltT10
  | 11 => ltT11
  | 12 => ltT12
  | 13 => ltT13
  | 14 => ltT14
  | 15 => ltT15
  | 16 => ltT16
  | 17 => ltT17
  | 18 => ltT18
  | 19 => ltT19
  | 20 => ltT20
  | 21 => ltT21
  | 22 => ltT22
  | 23 => ltT23
  | 24 => ltT24
  | 25 => ltT25
  | 26 => ltT26
  | 27 => ltT27
  | 28 => ltT28
  | 29 => ltT29
  | 30 => ltT30
  | 31 => ltT31
  | 32 => ltT32
  | 33 => ltT33
  | 34 => ltT34
  | 35 => ltT35
  | 36 => ltT36
  | 37 => ltT37
  | 38 => ltT38
  | 39 => ltT39
  | 40 => ltT40
  | 41 => ltT41
  | 42 => ltT42
  | 43 => ltT43
  | 44 => ltT44
  | 45 => ltT45
  | 46 => ltT46
  | 47 => ltT47
  | 48 => ltT48
  | 49 => ltT49
  | 50 => ltT50
  | 51 => ltT51
  | 52 => ltT52
  | 53 => ltT53
  | 54 => ltT54
  | 55 => ltT55
  | 56 => ltT56
  | 57 => ltT57
  | 58 => ltT58
  | 59 => ltT59
  | 60 => ltT60
  | 61 => ltT61
  | 62 => ltT62
  | 63 => ltT63
  | 64 => ltT64
  | 65 => ltT65
  | 66 => ltT66
  | 67 => ltT67
  | 68 => ltT68
  | 69 => ltT69
  | 70 => ltT70
  | 71 => ltT71
  | _ => []
theorem ltL_ok : ∀ oc, ∀ e ∈ ltL oc, xLs oc e.1 e.2 := by
  intro oc
  unfold ltL
  split
  · exact lto0
  · exact lto1
  · exact lto2
  · exact lto3
  · exact lto4
  · exact lto5
  · exact lto6
  · exact lto7
  · exact lto8
  · exact lto9
  · exact lto10
  · exact lto11
  · exact lto12
  · exact lto13
  · exact lto14
  · exact lto15
  · exact lto16
  · exact lto17
  · exact lto18
  · exact lto19
  · exact lto20
  · exact lto21
  · exact lto22
  · exact lto23
  · exact lto24
  · exact lto25
  · exact lto26
  · exact lto27
  · exact lto28
  · exact lto29
  · exact lto30
  · exact lto31
  · exact lto32
  · exact lto33
  · exact lto34
  · exact lto35
  · exact lto36
  · exact lto37
  · exact lto38
  · exact lto39
  · exact lto40
  · exact lto41
  · exact lto42
  · exact lto43
  · exact lto44
  · exact lto45
  · exact lto46
  · exact lto47
  · exact lto48
  · exact lto49
  · exact lto50
  · exact lto51
  · exact lto52
  · exact lto53
  · exact lto54
  · exact lto55
  · exact lto56
  · exact lto57
  · exact lto58
  · exact lto59
  · exact lto60
  · exact lto61
  · exact lto62
  · exact lto63
  · exact lto64
  · exact lto65
  · exact lto66
  · exact lto67
  · exact lto68
  · exact lto69
  · exact lto70
  · exact lto71
  · intro e h; cases h
def MR : List String := ["java/lang/String", "[Ljava/lang/Object;"]
def xLm (oc idx i : Nat) : Prop := ∃ C : String, MR[i]? = some C ∧ Cond.classLink (ocN oc) idx C ∈ lw_all
def lmT0 : List (Nat × Nat) := []
theorem lmo0 : ∀ e ∈ lmT0, xLm 0 e.1 e.2 := (fun _ h => by cases h)
def lmT1 : List (Nat × Nat) := []
theorem lmo1 : ∀ e ∈ lmT1, xLm 1 e.1 e.2 := (fun _ h => by cases h)
def lmT2 : List (Nat × Nat) := []
theorem lmo2 : ∀ e ∈ lmT2, xLm 2 e.1 e.2 := (fun _ h => by cases h)
def lmT3 : List (Nat × Nat) := []
theorem lmo3 : ∀ e ∈ lmT3, xLm 3 e.1 e.2 := (fun _ h => by cases h)
def lmT4 : List (Nat × Nat) := []
theorem lmo4 : ∀ e ∈ lmT4, xLm 4 e.1 e.2 := (fun _ h => by cases h)
def lmT5 : List (Nat × Nat) := []
theorem lmo5 : ∀ e ∈ lmT5, xLm 5 e.1 e.2 := (fun _ h => by cases h)
def lmT6 : List (Nat × Nat) := []
theorem lmo6 : ∀ e ∈ lmT6, xLm 6 e.1 e.2 := (fun _ h => by cases h)
def lmT7 : List (Nat × Nat) := []
theorem lmo7 : ∀ e ∈ lmT7, xLm 7 e.1 e.2 := (fun _ h => by cases h)
def lmT8 : List (Nat × Nat) := []
theorem lmo8 : ∀ e ∈ lmT8, xLm 8 e.1 e.2 := (fun _ h => by cases h)
def lmT9 : List (Nat × Nat) := []
theorem lmo9 : ∀ e ∈ lmT9, xLm 9 e.1 e.2 := (fun _ h => by cases h)
def lmT10 : List (Nat × Nat) := []
theorem lmo10 : ∀ e ∈ lmT10, xLm 10 e.1 e.2 := (fun _ h => by cases h)
def lmT11 : List (Nat × Nat) := []
theorem lmo11 : ∀ e ∈ lmT11, xLm 11 e.1 e.2 := (fun _ h => by cases h)
def lmT12 : List (Nat × Nat) := []
theorem lmo12 : ∀ e ∈ lmT12, xLm 12 e.1 e.2 := (fun _ h => by cases h)
def lmT13 : List (Nat × Nat) := []
theorem lmo13 : ∀ e ∈ lmT13, xLm 13 e.1 e.2 := (fun _ h => by cases h)
def lmT14 : List (Nat × Nat) := []
theorem lmo14 : ∀ e ∈ lmT14, xLm 14 e.1 e.2 := (fun _ h => by cases h)
def lmT15 : List (Nat × Nat) := []
theorem lmo15 : ∀ e ∈ lmT15, xLm 15 e.1 e.2 := (fun _ h => by cases h)
def lmT16 : List (Nat × Nat) := []
theorem lmo16 : ∀ e ∈ lmT16, xLm 16 e.1 e.2 := (fun _ h => by cases h)
def lmT17 : List (Nat × Nat) := []
theorem lmo17 : ∀ e ∈ lmT17, xLm 17 e.1 e.2 := (fun _ h => by cases h)
def lmT18 : List (Nat × Nat) := []
theorem lmo18 : ∀ e ∈ lmT18, xLm 18 e.1 e.2 := (fun _ h => by cases h)
def lmT19 : List (Nat × Nat) := []
theorem lmo19 : ∀ e ∈ lmT19, xLm 19 e.1 e.2 := (fun _ h => by cases h)
def lmT20 : List (Nat × Nat) := []
theorem lmo20 : ∀ e ∈ lmT20, xLm 20 e.1 e.2 := (fun _ h => by cases h)
def lmT21 : List (Nat × Nat) := []
theorem lmo21 : ∀ e ∈ lmT21, xLm 21 e.1 e.2 := (fun _ h => by cases h)
def lmT22 : List (Nat × Nat) := []
theorem lmo22 : ∀ e ∈ lmT22, xLm 22 e.1 e.2 := (fun _ h => by cases h)
def lmT23 : List (Nat × Nat) := []
theorem lmo23 : ∀ e ∈ lmT23, xLm 23 e.1 e.2 := (fun _ h => by cases h)
def lmT24 : List (Nat × Nat) := []
theorem lmo24 : ∀ e ∈ lmT24, xLm 24 e.1 e.2 := (fun _ h => by cases h)
def lmT25 : List (Nat × Nat) := []
theorem lmo25 : ∀ e ∈ lmT25, xLm 25 e.1 e.2 := (fun _ h => by cases h)
def lmT26 : List (Nat × Nat) := []
theorem lmo26 : ∀ e ∈ lmT26, xLm 26 e.1 e.2 := (fun _ h => by cases h)
def lmT27 : List (Nat × Nat) := []
theorem lmo27 : ∀ e ∈ lmT27, xLm 27 e.1 e.2 := (fun _ h => by cases h)
def lmT28 : List (Nat × Nat) := []
theorem lmo28 : ∀ e ∈ lmT28, xLm 28 e.1 e.2 := (fun _ h => by cases h)
def lmT29 : List (Nat × Nat) := []
theorem lmo29 : ∀ e ∈ lmT29, xLm 29 e.1 e.2 := (fun _ h => by cases h)
def lmT30 : List (Nat × Nat) := []
theorem lmo30 : ∀ e ∈ lmT30, xLm 30 e.1 e.2 := (fun _ h => by cases h)
def lmT31 : List (Nat × Nat) := []
theorem lmo31 : ∀ e ∈ lmT31, xLm 31 e.1 e.2 := (fun _ h => by cases h)
def lmT32 : List (Nat × Nat) := []
theorem lmo32 : ∀ e ∈ lmT32, xLm 32 e.1 e.2 := (fun _ h => by cases h)
def lmT33 : List (Nat × Nat) := []
theorem lmo33 : ∀ e ∈ lmT33, xLm 33 e.1 e.2 := (fun _ h => by cases h)
def lmT34 : List (Nat × Nat) := []
theorem lmo34 : ∀ e ∈ lmT34, xLm 34 e.1 e.2 := (fun _ h => by cases h)
def lmT35 : List (Nat × Nat) := []
theorem lmo35 : ∀ e ∈ lmT35, xLm 35 e.1 e.2 := (fun _ h => by cases h)
def lmT36 : List (Nat × Nat) := []
theorem lmo36 : ∀ e ∈ lmT36, xLm 36 e.1 e.2 := (fun _ h => by cases h)
def lmT37 : List (Nat × Nat) := []
theorem lmo37 : ∀ e ∈ lmT37, xLm 37 e.1 e.2 := (fun _ h => by cases h)
def lmT38 : List (Nat × Nat) := []
theorem lmo38 : ∀ e ∈ lmT38, xLm 38 e.1 e.2 := (fun _ h => by cases h)
def lmT39 : List (Nat × Nat) := []
theorem lmo39 : ∀ e ∈ lmT39, xLm 39 e.1 e.2 := (fun _ h => by cases h)
def lmT40 : List (Nat × Nat) := []
theorem lmo40 : ∀ e ∈ lmT40, xLm 40 e.1 e.2 := (fun _ h => by cases h)
def lmT41 : List (Nat × Nat) := []
theorem lmo41 : ∀ e ∈ lmT41, xLm 41 e.1 e.2 := (fun _ h => by cases h)
def lmT42 : List (Nat × Nat) := []
theorem lmo42 : ∀ e ∈ lmT42, xLm 42 e.1 e.2 := (fun _ h => by cases h)
def lmT43 : List (Nat × Nat) := []
theorem lmo43 : ∀ e ∈ lmT43, xLm 43 e.1 e.2 := (fun _ h => by cases h)
def lmT44 : List (Nat × Nat) := []
theorem lmo44 : ∀ e ∈ lmT44, xLm 44 e.1 e.2 := (fun _ h => by cases h)
def lmT45 : List (Nat × Nat) := []
theorem lmo45 : ∀ e ∈ lmT45, xLm 45 e.1 e.2 := (fun _ h => by cases h)
def lmT46 : List (Nat × Nat) := []
theorem lmo46 : ∀ e ∈ lmT46, xLm 46 e.1 e.2 := (fun _ h => by cases h)
def lmT47 : List (Nat × Nat) := []
theorem lmo47 : ∀ e ∈ lmT47, xLm 47 e.1 e.2 := (fun _ h => by cases h)
def lmT48 : List (Nat × Nat) := []
theorem lmo48 : ∀ e ∈ lmT48, xLm 48 e.1 e.2 := (fun _ h => by cases h)
def lmT49 : List (Nat × Nat) := []
theorem lmo49 : ∀ e ∈ lmT49, xLm 49 e.1 e.2 := (fun _ h => by cases h)
def lmT50 : List (Nat × Nat) := []
theorem lmo50 : ∀ e ∈ lmT50, xLm 50 e.1 e.2 := (fun _ h => by cases h)
def lmT51 : List (Nat × Nat) := []
theorem lmo51 : ∀ e ∈ lmT51, xLm 51 e.1 e.2 := (fun _ h => by cases h)
def lmT52 : List (Nat × Nat) := []
theorem lmo52 : ∀ e ∈ lmT52, xLm 52 e.1 e.2 := (fun _ h => by cases h)
def lmT53 : List (Nat × Nat) := []
theorem lmo53 : ∀ e ∈ lmT53, xLm 53 e.1 e.2 := (fun _ h => by cases h)
def lmT54 : List (Nat × Nat) := []
theorem lmo54 : ∀ e ∈ lmT54, xLm 54 e.1 e.2 := (fun _ h => by cases h)
def lmT55 : List (Nat × Nat) := []
theorem lmo55 : ∀ e ∈ lmT55, xLm 55 e.1 e.2 := (fun _ h => by cases h)
def lmT56 : List (Nat × Nat) := []
theorem lmo56 : ∀ e ∈ lmT56, xLm 56 e.1 e.2 := (fun _ h => by cases h)
def lmT57 : List (Nat × Nat) := []
theorem lmo57 : ∀ e ∈ lmT57, xLm 57 e.1 e.2 := (fun _ h => by cases h)
def lmT58 : List (Nat × Nat) := []
theorem lmo58 : ∀ e ∈ lmT58, xLm 58 e.1 e.2 := (fun _ h => by cases h)
def lmT59 : List (Nat × Nat) := []
theorem lmo59 : ∀ e ∈ lmT59, xLm 59 e.1 e.2 := (fun _ h => by cases h)
def lmT60 : List (Nat × Nat) := []
theorem lmo60 : ∀ e ∈ lmT60, xLm 60 e.1 e.2 := (fun _ h => by cases h)
def lmT61 : List (Nat × Nat) := []
theorem lmo61 : ∀ e ∈ lmT61, xLm 61 e.1 e.2 := (fun _ h => by cases h)
def lmT62 : List (Nat × Nat) := [(110, 1)]
theorem lmp62_0 : xLm 62 110 1 := ⟨_, rfl, q858⟩
theorem lmo62 : ∀ e ∈ lmT62, xLm 62 e.1 e.2 := List.forall_mem_cons.mpr ⟨lmp62_0, (fun _ h => by cases h)⟩
def lmT63 : List (Nat × Nat) := [(13, 0)]
theorem lmp63_0 : xLm 63 13 0 := ⟨_, rfl, q1216⟩
theorem lmo63 : ∀ e ∈ lmT63, xLm 63 e.1 e.2 := List.forall_mem_cons.mpr ⟨lmp63_0, (fun _ h => by cases h)⟩
def lmT64 : List (Nat × Nat) := []
theorem lmo64 : ∀ e ∈ lmT64, xLm 64 e.1 e.2 := (fun _ h => by cases h)
def lmT65 : List (Nat × Nat) := []
theorem lmo65 : ∀ e ∈ lmT65, xLm 65 e.1 e.2 := (fun _ h => by cases h)
def lmT66 : List (Nat × Nat) := []
theorem lmo66 : ∀ e ∈ lmT66, xLm 66 e.1 e.2 := (fun _ h => by cases h)
def lmT67 : List (Nat × Nat) := []
theorem lmo67 : ∀ e ∈ lmT67, xLm 67 e.1 e.2 := (fun _ h => by cases h)
def lmT68 : List (Nat × Nat) := []
theorem lmo68 : ∀ e ∈ lmT68, xLm 68 e.1 e.2 := (fun _ h => by cases h)
def lmT69 : List (Nat × Nat) := []
theorem lmo69 : ∀ e ∈ lmT69, xLm 69 e.1 e.2 := (fun _ h => by cases h)
def lmT70 : List (Nat × Nat) := []
theorem lmo70 : ∀ e ∈ lmT70, xLm 70 e.1 e.2 := (fun _ h => by cases h)
def lmT71 : List (Nat × Nat) := []
theorem lmo71 : ∀ e ∈ lmT71, xLm 71 e.1 e.2 := (fun _ h => by cases h)
def lmL (oc : Nat) : List (Nat × Nat) := match oc with
  | 0 => lmT0
  | 1 => lmT1
  | 2 => lmT2
  | 3 => lmT3
  | 4 => lmT4
  | 5 => lmT5
  | 6 => lmT6
  | 7 => lmT7
  | 8 => lmT8
  | 9 => lmT9
  | 10 => lmT10
  | 11 => lmT11
  | 12 => lmT12
  | 13 => lmT13
  | 14 => lmT14
  | 15 => lmT15
  | 16 => lmT16
  | 17 => lmT17
  | 18 => lmT18
  | 19 => lmT19
  | 20 => lmT20
  | 21 => lmT21
  | 22 => lmT22
  | 23 => lmT23
  | 24 => lmT24
  | 25 => lmT25
  | 26 => lmT26
  | 27 => lmT27
  | 28 => lmT28
  | 29 => lmT29
  | 30 => lmT30
  | 31 => lmT31
  | 32 => lmT32
  | 33 => lmT33
  | 34 => lmT34
  | 35 => lmT35
  | 36 => lmT36
  | 37 => lmT37
  | 38 => lmT38
  | 39 => lmT39
  | 40 => lmT40
  | 41 => lmT41
  | 42 => lmT42
  | 43 => lmT43
  | 44 => lmT44
  | 45 => lmT45
  | 46 => lmT46
  | 47 => lmT47
  | 48 => lmT48
  | 49 => lmT49
  | 50 => lmT50
  | 51 => lmT51
  | 52 => lmT52
  | 53 => lmT53
  | 54 => lmT54
  | 55 => lmT55
  | 56 => lmT56
  | 57 => lmT57
  | 58 => lmT58
  | 59 => lmT59
  | 60 => lmT60
  | 61 => lmT61
  | 62 => lmT62
  | 63 => lmT63
  | 64 => lmT64
  | 65 => lmT65
  | 66 => lmT66
  | 67 => lmT67
  | 68 => lmT68
  | 69 => lmT69
  | 70 => lmT70
  | 71 => lmT71
  | _ => []
theorem lmL_ok : ∀ oc, ∀ e ∈ lmL oc, xLm oc e.1 e.2 := by
  intro oc
  unfold lmL
  split
  · exact lmo0
  · exact lmo1
  · exact lmo2
  · exact lmo3
  · exact lmo4
  · exact lmo5
  · exact lmo6
  · exact lmo7
  · exact lmo8
  · exact lmo9
  · exact lmo10
  · exact lmo11
  · exact lmo12
  · exact lmo13
  · exact lmo14
  · exact lmo15
  · exact lmo16
  · exact lmo17
  · exact lmo18
  · exact lmo19
  · exact lmo20
  · exact lmo21
  · exact lmo22
  · exact lmo23
  · exact lmo24
  · exact lmo25
  · exact lmo26
  · exact lmo27
  · exact lmo28
  · exact lmo29
  · exact lmo30
  · exact lmo31
  · exact lmo32
  · exact lmo33
  · exact lmo34
  · exact lmo35
  · exact lmo36
  · exact lmo37
  · exact lmo38
  · exact lmo39
  · exact lmo40
  · exact lmo41
  · exact lmo42
  · exact lmo43
  · exact lmo44
  · exact lmo45
  · exact lmo46
  · exact lmo47
  · exact lmo48
  · exact lmo49
  · exact lmo50
  · exact lmo51
  · exact lmo52
  · exact lmo53
  · exact lmo54
  · exact lmo55
  · exact lmo56
  · exact lmo57
  · exact lmo58
  · exact lmo59
  · exact lmo60
  · exact lmo61
  · exact lmo62
  · exact lmo63
  · exact lmo64
  · exact lmo65
  · exact lmo66
  · exact lmo67
  · exact lmo68
  · exact lmo69
  · exact lmo70
  · exact lmo71
  · intro e h; cases h
def nw (oc idx : Nat) : Option (Nat) := ((nwL oc).find? (fun e => e.1 == idx)).map (fun e => e.2)
theorem nw_ok {oc idx : Nat} {q : Nat} (h : nw oc idx = some q) : xNw oc idx q := by
  unfold nw at h
  obtain ⟨e, he, rfl⟩ := Option.map_eq_some_iff.mp h
  have h1 := List.find?_some he
  have h2 := List.mem_of_find?_eq_some he
  simp only [beq_iff_eq] at h1
  have := nwL_ok oc e h2
  rw [h1] at this
  exact this
def an (oc idx : Nat) : Option (Nat) := ((anL oc).find? (fun e => e.1 == idx)).map (fun e => e.2)
theorem an_ok {oc idx : Nat} {q : Nat} (h : an oc idx = some q) : xAn oc idx q := by
  unfold an at h
  obtain ⟨e, he, rfl⟩ := Option.map_eq_some_iff.mp h
  have h1 := List.find?_some he
  have h2 := List.mem_of_find?_eq_some he
  simp only [beq_iff_eq] at h1
  have := anL_ok oc e h2
  rw [h1] at this
  exact this
def gs (oc idx : Nat) : Option (Nat) := ((gsL oc).find? (fun e => e.1 == idx)).map (fun e => e.2)
theorem gs_ok {oc idx : Nat} {q : Nat} (h : gs oc idx = some q) : xGs oc idx q := by
  unfold gs at h
  obtain ⟨e, he, rfl⟩ := Option.map_eq_some_iff.mp h
  have h1 := List.find?_some he
  have h2 := List.mem_of_find?_eq_some he
  simp only [beq_iff_eq] at h1
  have := gsL_ok oc e h2
  rw [h1] at this
  exact this
def li (oc idx : Nat) : Option (Int32) := ((liL oc).find? (fun e => e.1 == idx)).map (fun e => e.2)
theorem li_ok {oc idx : Nat} {q : Int32} (h : li oc idx = some q) : xLi oc idx q := by
  unfold li at h
  obtain ⟨e, he, rfl⟩ := Option.map_eq_some_iff.mp h
  have h1 := List.find?_some he
  have h2 := List.mem_of_find?_eq_some he
  simp only [beq_iff_eq] at h1
  have := liL_ok oc e h2
  rw [h1] at this
  exact this
def ll (oc idx : Nat) : Option (Int64) := ((llL oc).find? (fun e => e.1 == idx)).map (fun e => e.2)
theorem ll_ok {oc idx : Nat} {q : Int64} (h : ll oc idx = some q) : xLl oc idx q := by
  unfold ll at h
  obtain ⟨e, he, rfl⟩ := Option.map_eq_some_iff.mp h
  have h1 := List.find?_some he
  have h2 := List.mem_of_find?_eq_some he
  simp only [beq_iff_eq] at h1
  have := llL_ok oc e h2
  rw [h1] at this
  exact this
def lf (oc idx : Nat) : Option (UInt32) := ((lfL oc).find? (fun e => e.1 == idx)).map (fun e => e.2)
theorem lf_ok {oc idx : Nat} {q : UInt32} (h : lf oc idx = some q) : xLf oc idx q := by
  unfold lf at h
  obtain ⟨e, he, rfl⟩ := Option.map_eq_some_iff.mp h
  have h1 := List.find?_some he
  have h2 := List.mem_of_find?_eq_some he
  simp only [beq_iff_eq] at h1
  have := lfL_ok oc e h2
  rw [h1] at this
  exact this
def lt (oc idx : Nat) : Option (Nat) := ((ltL oc).find? (fun e => e.1 == idx)).map (fun e => e.2)
theorem lt_ok {oc idx : Nat} {q : Nat} (h : lt oc idx = some q) : xLs oc idx q := by
  unfold lt at h
  obtain ⟨e, he, rfl⟩ := Option.map_eq_some_iff.mp h
  have h1 := List.find?_some he
  have h2 := List.mem_of_find?_eq_some he
  simp only [beq_iff_eq] at h1
  have := ltL_ok oc e h2
  rw [h1] at this
  exact this
def lm (oc idx : Nat) : Option (Nat) := ((lmL oc).find? (fun e => e.1 == idx)).map (fun e => e.2)
theorem lm_ok {oc idx : Nat} {q : Nat} (h : lm oc idx = some q) : xLm oc idx q := by
  unfold lm at h
  obtain ⟨e, he, rfl⟩ := Option.map_eq_some_iff.mp h
  have h1 := List.find?_some he
  have h2 := List.mem_of_find?_eq_some he
  simp only [beq_iff_eq] at h1
  have := lmL_ok oc e h2
  rw [h1] at this
  exact this
def ck (oc idx ci : Nat) : Option Bool := ((ckL oc).find? (fun e => e.1 == idx && e.2.1 == ci)).map (fun e => e.2.2)
theorem ck_ok {oc idx ci : Nat} {q : Bool} (h : ck oc idx ci = some q) : xCk oc idx ci q := by
  unfold ck at h
  obtain ⟨e, he, rfl⟩ := Option.map_eq_some_iff.mp h
  have h1 := List.find?_some he
  have h2 := List.mem_of_find?_eq_some he
  simp only [Bool.and_eq_true, beq_iff_eq] at h1
  have := ckL_ok oc e h2
  rw [h1.1, h1.2] at this
  exact this
def ca (oc idx k : Nat) : Bool := (caL oc).any (fun e => e.1 == idx && e.2 == k)
theorem ca_ok {oc idx k : Nat} (h : ca oc idx k = true) : xCa oc idx k := by
  unfold ca at h
  obtain ⟨e, h2, h1⟩ := List.any_eq_true.mp h
  simp only [Bool.and_eq_true, beq_iff_eq] at h1
  have := caL_ok oc e h2
  rw [h1.1, h1.2] at this
  exact this
def xAc (k ci : Nat) : Prop := ∃ (E C : String) (T : u_T) (N : Nat), kty k = some (.object E) ∧ CL[ci]? = some (C, T, N) ∧ (C = E ∨ Cond.castable C E ∈ lw_tbl)
def acT : List (Nat × Nat) := [(3, 0), (3, 1), (3, 2), (3, 3), (3, 4), (3, 5), (3, 6), (3, 7), (3, 8), (3, 9), (3, 10), (3, 11), (3, 12), (3, 13), (3, 14), (3, 15), (3, 16), (3, 17), (3, 18), (3, 19), (3, 20), (3, 21), (3, 22), (3, 23), (3, 24), (3, 25), (3, 26), (3, 27), (3, 28), (3, 29), (3, 30), (3, 31), (3, 32), (3, 33), (3, 34), (3, 35), (3, 36), (3, 37), (3, 38), (3, 39), (3, 40), (3, 41), (3, 42), (3, 43), (3, 44), (3, 45), (3, 46), (3, 47), (3, 48), (3, 49), (3, 50), (4, 8), (5, 35), (6, 21), (6, 22)]
theorem acp_0 : xAc 3 0 := ⟨_, _, _, _, rfl, rfl, Or.inr q3329⟩
theorem acp_1 : xAc 3 1 := ⟨_, _, _, _, rfl, rfl, Or.inr q3330⟩
theorem acp_2 : xAc 3 2 := ⟨_, _, _, _, rfl, rfl, Or.inr q3331⟩
theorem acp_3 : xAc 3 3 := ⟨_, _, _, _, rfl, rfl, Or.inr q3332⟩
theorem acp_4 : xAc 3 4 := ⟨_, _, _, _, rfl, rfl, Or.inr q3337⟩
theorem acp_5 : xAc 3 5 := ⟨_, _, _, _, rfl, rfl, Or.inr q3338⟩
theorem acp_6 : xAc 3 6 := ⟨_, _, _, _, rfl, rfl, Or.inr q3339⟩
theorem acp_7 : xAc 3 7 := ⟨_, _, _, _, rfl, rfl, Or.inr q3341⟩
theorem acp_8 : xAc 3 8 := ⟨_, _, _, _, rfl, rfl, Or.inr q3326⟩
theorem acp_9 : xAc 3 9 := ⟨_, _, _, _, rfl, rfl, Or.inr q3336⟩
theorem acp_10 : xAc 3 10 := ⟨_, _, _, _, rfl, rfl, Or.inr q3377⟩
theorem acp_11 : xAc 3 11 := ⟨_, _, _, _, rfl, rfl, Or.inr q3342⟩
theorem acp_12 : xAc 3 12 := ⟨_, _, _, _, rfl, rfl, Or.inr q3343⟩
theorem acp_13 : xAc 3 13 := ⟨_, _, _, _, rfl, rfl, Or.inr q3346⟩
theorem acp_14 : xAc 3 14 := ⟨_, _, _, _, rfl, rfl, Or.inr q3347⟩
theorem acp_15 : xAc 3 15 := ⟨_, _, _, _, rfl, rfl, Or.inr q3348⟩
theorem acp_16 : xAc 3 16 := ⟨_, _, _, _, rfl, rfl, Or.inr q3349⟩
theorem acp_17 : xAc 3 17 := ⟨_, _, _, _, rfl, rfl, Or.inr q3353⟩
theorem acp_18 : xAc 3 18 := ⟨_, _, _, _, rfl, rfl, Or.inr q3355⟩
theorem acp_19 : xAc 3 19 := ⟨_, _, _, _, rfl, rfl, Or.inr q3358⟩
theorem acp_20 : xAc 3 20 := ⟨_, _, _, _, rfl, rfl, Or.inr q3364⟩
theorem acp_21 : xAc 3 21 := ⟨_, _, _, _, rfl, rfl, Or.inr q3325⟩
theorem acp_22 : xAc 3 22 := ⟨_, _, _, _, rfl, rfl, Or.inr q3363⟩
theorem acp_23 : xAc 3 23 := ⟨_, _, _, _, rfl, rfl, Or.inr q3368⟩
theorem acp_24 : xAc 3 24 := ⟨_, _, _, _, rfl, rfl, Or.inr q3369⟩
theorem acp_25 : xAc 3 25 := ⟨_, _, _, _, rfl, rfl, Or.inr q3370⟩
theorem acp_26 : xAc 3 26 := ⟨_, _, _, _, rfl, rfl, Or.inr q3371⟩
theorem acp_27 : xAc 3 27 := ⟨_, _, _, _, rfl, rfl, Or.inr q3372⟩
theorem acp_28 : xAc 3 28 := ⟨_, _, _, _, rfl, rfl, Or.inr q3373⟩
theorem acp_29 : xAc 3 29 := ⟨_, _, _, _, rfl, rfl, Or.inr q3376⟩
theorem acp_30 : xAc 3 30 := ⟨_, _, _, _, rfl, rfl, Or.inr q3375⟩
theorem acp_31 : xAc 3 31 := ⟨_, _, _, _, rfl, rfl, Or.inr q3335⟩
theorem acp_32 : xAc 3 32 := ⟨_, _, _, _, rfl, rfl, Or.inr q3374⟩
theorem acp_33 : xAc 3 33 := ⟨_, _, _, _, rfl, rfl, Or.inr q3333⟩
theorem acp_34 : xAc 3 34 := ⟨_, _, _, _, rfl, rfl, Or.inr q3334⟩
theorem acp_35 : xAc 3 35 := ⟨_, _, _, _, rfl, rfl, Or.inr q3327⟩
theorem acp_36 : xAc 3 36 := ⟨_, _, _, _, rfl, rfl, Or.inr q3365⟩
theorem acp_37 : xAc 3 37 := ⟨_, _, _, _, rfl, rfl, Or.inr q3366⟩
theorem acp_38 : xAc 3 38 := ⟨_, _, _, _, rfl, rfl, Or.inr q3367⟩
theorem acp_39 : xAc 3 39 := ⟨_, _, _, _, rfl, rfl, Or.inr q3361⟩
theorem acp_40 : xAc 3 40 := ⟨_, _, _, _, rfl, rfl, Or.inr q3362⟩
theorem acp_41 : xAc 3 41 := ⟨_, _, _, _, rfl, rfl, Or.inr q3359⟩
theorem acp_42 : xAc 3 42 := ⟨_, _, _, _, rfl, rfl, Or.inr q3360⟩
theorem acp_43 : xAc 3 43 := ⟨_, _, _, _, rfl, rfl, Or.inr q3356⟩
theorem acp_44 : xAc 3 44 := ⟨_, _, _, _, rfl, rfl, Or.inr q3357⟩
theorem acp_45 : xAc 3 45 := ⟨_, _, _, _, rfl, rfl, Or.inr q3350⟩
theorem acp_46 : xAc 3 46 := ⟨_, _, _, _, rfl, rfl, Or.inr q3351⟩
theorem acp_47 : xAc 3 47 := ⟨_, _, _, _, rfl, rfl, Or.inr q3352⟩
theorem acp_48 : xAc 3 48 := ⟨_, _, _, _, rfl, rfl, Or.inr q3354⟩
theorem acp_49 : xAc 3 49 := ⟨_, _, _, _, rfl, rfl, Or.inr q3340⟩
theorem acp_50 : xAc 3 50 := ⟨_, _, _, _, rfl, rfl, Or.inr q3345⟩
theorem acp_51 : xAc 4 8 := ⟨_, _, _, _, rfl, rfl, Or.inl rfl⟩
theorem acp_52 : xAc 5 35 := ⟨_, _, _, _, rfl, rfl, Or.inl rfl⟩
theorem acp_53 : xAc 6 21 := ⟨_, _, _, _, rfl, rfl, Or.inl rfl⟩
theorem acp_54 : xAc 6 22 := ⟨_, _, _, _, rfl, rfl, Or.inr q3378⟩
theorem aco : ∀ e ∈ acT, xAc e.1 e.2 := List.forall_mem_cons.mpr ⟨acp_0, List.forall_mem_cons.mpr ⟨acp_1, List.forall_mem_cons.mpr ⟨acp_2, List.forall_mem_cons.mpr ⟨acp_3, List.forall_mem_cons.mpr ⟨acp_4, List.forall_mem_cons.mpr ⟨acp_5, List.forall_mem_cons.mpr ⟨acp_6, List.forall_mem_cons.mpr ⟨acp_7, List.forall_mem_cons.mpr ⟨acp_8, List.forall_mem_cons.mpr ⟨acp_9, List.forall_mem_cons.mpr ⟨acp_10, List.forall_mem_cons.mpr ⟨acp_11, List.forall_mem_cons.mpr ⟨acp_12, List.forall_mem_cons.mpr ⟨acp_13, List.forall_mem_cons.mpr ⟨acp_14, List.forall_mem_cons.mpr ⟨acp_15, List.forall_mem_cons.mpr ⟨acp_16, List.forall_mem_cons.mpr ⟨acp_17, List.forall_mem_cons.mpr ⟨acp_18, List.forall_mem_cons.mpr ⟨acp_19, List.forall_mem_cons.mpr ⟨acp_20, List.forall_mem_cons.mpr ⟨acp_21, List.forall_mem_cons.mpr ⟨acp_22, List.forall_mem_cons.mpr ⟨acp_23, List.forall_mem_cons.mpr ⟨acp_24, List.forall_mem_cons.mpr ⟨acp_25, List.forall_mem_cons.mpr ⟨acp_26, List.forall_mem_cons.mpr ⟨acp_27, List.forall_mem_cons.mpr ⟨acp_28, List.forall_mem_cons.mpr ⟨acp_29, List.forall_mem_cons.mpr ⟨acp_30, List.forall_mem_cons.mpr ⟨acp_31, List.forall_mem_cons.mpr ⟨acp_32, List.forall_mem_cons.mpr ⟨acp_33, List.forall_mem_cons.mpr ⟨acp_34, List.forall_mem_cons.mpr ⟨acp_35, List.forall_mem_cons.mpr ⟨acp_36, List.forall_mem_cons.mpr ⟨acp_37, List.forall_mem_cons.mpr ⟨acp_38, List.forall_mem_cons.mpr ⟨acp_39, List.forall_mem_cons.mpr ⟨acp_40, List.forall_mem_cons.mpr ⟨acp_41, List.forall_mem_cons.mpr ⟨acp_42, List.forall_mem_cons.mpr ⟨acp_43, List.forall_mem_cons.mpr ⟨acp_44, List.forall_mem_cons.mpr ⟨acp_45, List.forall_mem_cons.mpr ⟨acp_46, List.forall_mem_cons.mpr ⟨acp_47, List.forall_mem_cons.mpr ⟨acp_48, List.forall_mem_cons.mpr ⟨acp_49, List.forall_mem_cons.mpr ⟨acp_50, List.forall_mem_cons.mpr ⟨acp_51, List.forall_mem_cons.mpr ⟨acp_52, List.forall_mem_cons.mpr ⟨acp_53, List.forall_mem_cons.mpr ⟨acp_54, (fun _ h => by cases h)⟩⟩⟩⟩⟩⟩⟩⟩⟩⟩⟩⟩⟩⟩⟩⟩⟩⟩⟩⟩⟩⟩⟩⟩⟩⟩⟩⟩⟩⟩⟩⟩⟩⟩⟩⟩⟩⟩⟩⟩⟩⟩⟩⟩⟩⟩⟩⟩⟩⟩⟩⟩⟩⟩⟩
def ac (k ci : Nat) : Bool := acT.any (fun e => e.1 == k && e.2 == ci)
theorem ac_ok {k ci : Nat} (h : ac k ci = true) : xAc k ci := by
  unfold ac at h
  obtain ⟨e, h2, h1⟩ := List.any_eq_true.mp h
  simp only [Bool.and_eq_true, beq_iff_eq] at h1
  have := aco e h2
  rw [h1.1, h1.2] at this
  exact this
