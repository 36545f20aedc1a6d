/-! IntervalTreeModel -/
set_option maxRecDepth 100000
def RX3 : String := "IntervalTreeModel"
def TX3 : u_T := fun k => match k with
  | 0 => ("IntervalTreeModel", "thrown", "I", false)
  | 1 => ("IntervalTreeModel", "low", "[I", true)
  | 2 => ("IntervalTreeModel", "high", "[I", true)
  | 3 => ("IntervalTreeModel", "weight", "[I", true)
  | 4 => ("IntervalTreeModel", "state", "[I", true)
  | 5 => ("IntervalTreeModel", "left", "[I", true)
  | 6 => ("IntervalTreeModel", "right", "[I", true)
  | 7 => ("IntervalTreeModel", "parent", "[I", true)
  | 8 => ("IntervalTreeModel", "red", "[Z", true)
  | 9 => ("IntervalTreeModel", "root", "I", false)
  | 10 => ("IntervalTreeModel", "inserted", "I", false)
  | 11 => ("IntervalTreeModel", "nodes", "I", false)
  | 12 => ("IntervalTreeModel", "removed", "I", false)
  | 13 => ("IntervalTreeModel", "percentage", "I", false)
  | 14 => ("IntervalTreeModel", "rebuilds", "I", false)
  | 15 => ("IntervalTreeModel", "rebuilt", "I", false)
  | 16 => ("IntervalTreeModel", "row", "[I", true)
  | 17 => ("IntervalTreeModel", "rowMany", "I", false)
  | 18 => ("IntervalTreeModel", "onLevel", "[I", true)
  | 19 => ("IntervalTreeModel", "depthOf", "[I", true)
  | 20 => ("IntervalTreeModel", "most", "I", false)
  | 21 => ("IntervalTreeModel", "digest", "I", false)
  | 22 => ("IntervalTreeModel", "cover", "[I", true)
  | 23 => ("IntervalTreeModel", "bestFrom", "[I", true)
  | 24 => ("IntervalTreeModel", "filters", "I", false)
  | 25 => ("IntervalTreeModel", "filterKind", "[I", true)
  | 26 => ("IntervalTreeModel", "filterA", "[I", true)
  | 27 => ("IntervalTreeModel", "filterB", "[I", true)
  | 28 => ("IntervalTreeModel", "filterC", "[I", true)
  | 29 => ("IntervalTreeModel", "parts", "[I", true)
  | 30 => ("IntervalTreeModel", "partWhat", "[I", true)
  | 31 => ("IntervalTreeModel", "partBy", "[I", true)
  | 32 => ("IntervalTreeModel", "partNumber", "[I", true)
  | 33 => ("IntervalTreeModel", "stack", "[Z", true)
  | 34 => ("IntervalTreeModel", "text", "[I", true)
  | 35 => ("IntervalTreeModel", "texted", "I", false)
  | 36 => ("IntervalTreeModel", "at", "I", false)
  | 37 => ("IntervalTreeModel", "references", "I", false)
  | 38 => ("IntervalTreeModel", "isWrong", "Z", false)
  | 39 => ("IntervalTreeModel", "isOpen", "[Z", true)
  | 40 => ("IntervalTreeModel", "cursorFilter", "[I", true)
  | 41 => ("IntervalTreeModel", "cursorLast", "[I", true)
  | 42 => ("IntervalTreeModel", "isSaved", "Z", false)
  | 43 => ("IntervalTreeModel", "lowWas", "[I", true)
  | 44 => ("IntervalTreeModel", "highWas", "[I", true)
  | 45 => ("IntervalTreeModel", "weightWas", "[I", true)
  | 46 => ("IntervalTreeModel", "stateWas", "[I", true)
  | 47 => ("IntervalTreeModel", "leftWas", "[I", true)
  | 48 => ("IntervalTreeModel", "rightWas", "[I", true)
  | 49 => ("IntervalTreeModel", "parentWas", "[I", true)
  | 50 => ("IntervalTreeModel", "numbersWere", "[I", true)
  | _ => ("IntervalTreeModel", "redWas", "[Z", true)
def tyX3 : Nat → FieldType := fun k => match k with
  | 0 => .int
  | 1 => .array .int
  | 2 => .array .int
  | 3 => .array .int
  | 4 => .array .int
  | 5 => .array .int
  | 6 => .array .int
  | 7 => .array .int
  | 8 => .array .boolean
  | 9 => .int
  | 10 => .int
  | 11 => .int
  | 12 => .int
  | 13 => .int
  | 14 => .int
  | 15 => .int
  | 16 => .array .int
  | 17 => .int
  | 18 => .array .int
  | 19 => .array .int
  | 20 => .int
  | 21 => .int
  | 22 => .array .int
  | 23 => .array .int
  | 24 => .int
  | 25 => .array .int
  | 26 => .array .int
  | 27 => .array .int
  | 28 => .array .int
  | 29 => .array .int
  | 30 => .array .int
  | 31 => .array .int
  | 32 => .array .int
  | 33 => .array .boolean
  | 34 => .array .int
  | 35 => .int
  | 36 => .int
  | 37 => .int
  | 38 => .boolean
  | 39 => .array .boolean
  | 40 => .array .int
  | 41 => .array .int
  | 42 => .boolean
  | 43 => .array .int
  | 44 => .array .int
  | 45 => .array .int
  | 46 => .array .int
  | 47 => .array .int
  | 48 => .array .int
  | 49 => .array .int
  | 50 => .array .int
  | _ => .array .boolean
abbrev wsX30 : List Cond := u_ws RX3 TX3 52
set_option maxRecDepth 100000 in
theorem nmX3 : ∀ a, a < 52 → ∀ b, b < 52 → a ≠ b → (TX3 a).2.1 ≠ (TX3 b).2.1 := by decide +kernel
set_option maxRecDepth 100000 in
theorem tyX3_ok : ∀ k, k < 52 → parseFieldDescriptor (TX3 k).2.2.1 = some (tyX3 k) := by decide +kernel
abbrev cX3_thrown : ByteArray := prog_10_method_1_code
def yX3_thrown : MethodName := ⟨RX3, "thrown", "()I"⟩
theorem dX3_thrown_0 : decode cX3_thrown 0 = .ok (.aload_n 0, 1) := by decide +kernel
theorem dX3_thrown_1 : decode cX3_thrown 1 = .ok (.getfield 1, 3) := by decide +kernel
theorem dX3_thrown_4 : decode cX3_thrown 4 = .ok (.ireturn, 1) := by decide +kernel
abbrev cX3_init : ByteArray := prog_10_method_4_code
def yX3_init : MethodName := ⟨RX3, "<init>", "()V"⟩
def dkwX3_init_17 : List UInt8 := [188, 10, 181, 0, 157, 42, 17, 1, 244, 188, 4, 181, 0, 160, 177]
abbrev dktX3_init_17 : List UInt8 := dkwX3_init_17 ++ []
def dkwX3_init_16 : List UInt8 := [181, 0, 148, 42, 17, 1, 244, 188, 10, 181, 0, 151, 42, 17, 1, 244, 188, 10, 181, 0, 154, 42, 16, 7]
abbrev dktX3_init_16 : List UInt8 := dkwX3_init_16 ++ dktX3_init_17
def dkwX3_init_15 : List UInt8 := [17, 1, 244, 188, 10, 181, 0, 142, 42, 17, 1, 244, 188, 10, 181, 0, 145, 42, 17, 1, 244, 188, 10]
abbrev dktX3_init_15 : List UInt8 := dkwX3_init_15 ++ dktX3_init_16
def dkwX3_init_14 : List UInt8 := [42, 3, 181, 0, 133, 42, 17, 1, 244, 188, 10, 181, 0, 136, 42, 17, 1, 244, 188, 10, 181, 0, 139, 42]
abbrev dktX3_init_14 : List UInt8 := dkwX3_init_14 ++ dktX3_init_15
def dkwX3_init_13 : List UInt8 := [181, 0, 120, 42, 7, 188, 4, 181, 0, 124, 42, 7, 188, 10, 181, 0, 127, 42, 7, 188, 10, 181, 0, 130]
abbrev dktX3_init_13 : List UInt8 := dkwX3_init_13 ++ dktX3_init_14
def dkwX3_init_12 : List UInt8 := [16, 60, 188, 10, 181, 0, 108, 42, 3, 181, 0, 111, 42, 3, 181, 0, 114, 42, 3, 181, 0, 117, 42, 3]
abbrev dktX3_init_12 : List UInt8 := dkwX3_init_12 ++ dktX3_init_13
def dkwX3_init_11 : List UInt8 := [188, 10, 181, 0, 99, 42, 17, 1, 224, 188, 10, 181, 0, 102, 42, 17, 1, 224, 188, 4, 181, 0, 105, 42]
abbrev dktX3_init_11 : List UInt8 := dkwX3_init_11 ++ dktX3_init_12
def dkwX3_init_10 : List UInt8 := [181, 0, 90, 42, 16, 8, 188, 10, 181, 0, 93, 42, 17, 1, 224, 188, 10, 181, 0, 96, 42, 17, 1, 224]
abbrev dktX3_init_10 : List UInt8 := dkwX3_init_10 ++ dktX3_init_11
def dkwX3_init_9 : List UInt8 := [181, 0, 81, 42, 16, 8, 188, 10, 181, 0, 84, 42, 16, 8, 188, 10, 181, 0, 87, 42, 16, 8, 188, 10]
abbrev dktX3_init_9 : List UInt8 := dkwX3_init_9 ++ dktX3_init_10
def dkwX3_init_8 : List UInt8 := [79, 89, 6, 3, 79, 89, 7, 3, 79, 89, 8, 3, 79, 89, 16, 6, 3, 79, 89, 16, 7, 3, 79]
abbrev dktX3_init_8 : List UInt8 := dkwX3_init_8 ++ dktX3_init_9
def dkwX3_init_7 : List UInt8 := [181, 0, 75, 42, 6, 181, 0, 78, 42, 16, 8, 188, 10, 89, 3, 3, 79, 89, 4, 4, 79, 89, 5, 5]
abbrev dktX3_init_7 : List UInt8 := dkwX3_init_7 ++ dktX3_init_8
def dkwX3_init_6 : List UInt8 := [17, 1, 244, 188, 10, 181, 0, 69, 42, 17, 7, 210, 188, 10, 181, 0, 72, 42, 17, 1, 245, 188, 10]
abbrev dktX3_init_6 : List UInt8 := dkwX3_init_6 ++ dktX3_init_7
def dkwX3_init_5 : List UInt8 := [42, 17, 1, 244, 188, 10, 181, 0, 60, 42, 3, 181, 0, 63, 42, 17, 1, 244, 188, 10, 181, 0, 66, 42]
abbrev dktX3_init_5 : List UInt8 := dkwX3_init_5 ++ dktX3_init_6
def dkwX3_init_4 : List UInt8 := [181, 0, 45, 42, 3, 181, 0, 48, 42, 16, 50, 181, 0, 51, 42, 3, 181, 0, 54, 42, 3, 181, 0, 57]
abbrev dktX3_init_4 : List UInt8 := dkwX3_init_4 ++ dktX3_init_5
def dkwX3_init_3 : List UInt8 := [181, 0, 32, 42, 17, 1, 244, 188, 4, 181, 0, 35, 42, 2, 181, 0, 39, 42, 3, 181, 0, 42, 42, 3]
abbrev dktX3_init_3 : List UInt8 := dkwX3_init_3 ++ dktX3_init_4
def dkwX3_init_2 : List UInt8 := [17, 1, 244, 188, 10, 181, 0, 26, 42, 17, 1, 244, 188, 10, 181, 0, 29, 42, 17, 1, 244, 188, 10]
abbrev dktX3_init_2 : List UInt8 := dkwX3_init_2 ++ dktX3_init_3
def dkwX3_init_1 : List UInt8 := [181, 0, 17, 42, 17, 1, 244, 188, 10, 181, 0, 20, 42, 17, 1, 244, 188, 10, 181, 0, 23, 42]
abbrev dktX3_init_1 : List UInt8 := dkwX3_init_1 ++ dktX3_init_2
def dkwX3_init_0 : List UInt8 := [42, 183, 0, 7, 42, 3, 181, 0, 1, 42, 17, 1, 244, 188, 10, 181, 0, 13, 42, 17, 1, 244, 188, 10]
abbrev dktX3_init_0 : List UInt8 := dkwX3_init_0 ++ dktX3_init_1
theorem dksX3_init_0 : cX3_init.data.toList.drop 0 = dktX3_init_0 := by decide +kernel
theorem dksX3_init_1 : cX3_init.data.toList.drop 24 = dktX3_init_1 := dk_seg dksX3_init_0 24 rfl rfl
theorem dksX3_init_2 : cX3_init.data.toList.drop 46 = dktX3_init_2 := dk_seg dksX3_init_1 22 rfl rfl
theorem dksX3_init_3 : cX3_init.data.toList.drop 69 = dktX3_init_3 := dk_seg dksX3_init_2 23 rfl rfl
theorem dksX3_init_4 : cX3_init.data.toList.drop 93 = dktX3_init_4 := dk_seg dksX3_init_3 24 rfl rfl
theorem dksX3_init_5 : cX3_init.data.toList.drop 117 = dktX3_init_5 := dk_seg dksX3_init_4 24 rfl rfl
theorem dksX3_init_6 : cX3_init.data.toList.drop 141 = dktX3_init_6 := dk_seg dksX3_init_5 24 rfl rfl
theorem dksX3_init_7 : cX3_init.data.toList.drop 164 = dktX3_init_7 := dk_seg dksX3_init_6 23 rfl rfl
theorem dksX3_init_8 : cX3_init.data.toList.drop 188 = dktX3_init_8 := dk_seg dksX3_init_7 24 rfl rfl
theorem dksX3_init_9 : cX3_init.data.toList.drop 211 = dktX3_init_9 := dk_seg dksX3_init_8 23 rfl rfl
theorem dksX3_init_10 : cX3_init.data.toList.drop 235 = dktX3_init_10 := dk_seg dksX3_init_9 24 rfl rfl
theorem dksX3_init_11 : cX3_init.data.toList.drop 259 = dktX3_init_11 := dk_seg dksX3_init_10 24 rfl rfl
theorem dksX3_init_12 : cX3_init.data.toList.drop 283 = dktX3_init_12 := dk_seg dksX3_init_11 24 rfl rfl
theorem dksX3_init_13 : cX3_init.data.toList.drop 307 = dktX3_init_13 := dk_seg dksX3_init_12 24 rfl rfl
theorem dksX3_init_14 : cX3_init.data.toList.drop 331 = dktX3_init_14 := dk_seg dksX3_init_13 24 rfl rfl
theorem dksX3_init_15 : cX3_init.data.toList.drop 355 = dktX3_init_15 := dk_seg dksX3_init_14 24 rfl rfl
theorem dksX3_init_16 : cX3_init.data.toList.drop 378 = dktX3_init_16 := dk_seg dksX3_init_15 23 rfl rfl
theorem dksX3_init_17 : cX3_init.data.toList.drop 402 = dktX3_init_17 := dk_seg dksX3_init_16 24 rfl rfl
theorem dX3_init_0 : decode cX3_init 0 = .ok (.aload_n 0, 1) := dk_42 (dk_at dksX3_init_0 0 rfl rfl)
theorem dX3_init_1 : decode cX3_init 1 = .ok (.invokespecial 7, 3) := dk_183 0 7 (dk_at dksX3_init_0 1 rfl rfl)
theorem dX3_init_4 : decode cX3_init 4 = .ok (.aload_n 0, 1) := dk_42 (dk_at dksX3_init_0 4 rfl rfl)
theorem dX3_init_5 : decode cX3_init 5 = .ok (.iconst 0, 1) := dk_3 (dk_at dksX3_init_0 5 rfl rfl)
theorem dX3_init_6 : decode cX3_init 6 = .ok (.putfield 1, 3) := dk_181 0 1 (dk_at dksX3_init_0 6 rfl rfl)
theorem dX3_init_9 : decode cX3_init 9 = .ok (.aload_n 0, 1) := dk_42 (dk_at dksX3_init_0 9 rfl rfl)
theorem dX3_init_10 : decode cX3_init 10 = .ok (.sipush 500, 3) := dk_17 1 244 (dk_at dksX3_init_0 10 rfl rfl)
theorem dX3_init_13 : decode cX3_init 13 = .ok (.newarray .int, 2) := dk_188_10 (dk_at dksX3_init_0 13 rfl rfl)
theorem dX3_init_15 : decode cX3_init 15 = .ok (.putfield 13, 3) := dk_181 0 13 (dk_at dksX3_init_0 15 rfl rfl)
theorem dX3_init_18 : decode cX3_init 18 = .ok (.aload_n 0, 1) := dk_42 (dk_at dksX3_init_0 18 rfl rfl)
theorem dX3_init_19 : decode cX3_init 19 = .ok (.sipush 500, 3) := dk_17 1 244 (dk_at dksX3_init_0 19 rfl rfl)
theorem dX3_init_22 : decode cX3_init 22 = .ok (.newarray .int, 2) := dk_188_10 (dk_at dksX3_init_0 22 rfl rfl)
theorem dX3_init_24 : decode cX3_init 24 = .ok (.putfield 17, 3) := dk_181 0 17 (dk_at dksX3_init_1 0 rfl rfl)
theorem dX3_init_27 : decode cX3_init 27 = .ok (.aload_n 0, 1) := dk_42 (dk_at dksX3_init_1 3 rfl rfl)
theorem dX3_init_28 : decode cX3_init 28 = .ok (.sipush 500, 3) := dk_17 1 244 (dk_at dksX3_init_1 4 rfl rfl)
theorem dX3_init_31 : decode cX3_init 31 = .ok (.newarray .int, 2) := dk_188_10 (dk_at dksX3_init_1 7 rfl rfl)
theorem dX3_init_33 : decode cX3_init 33 = .ok (.putfield 20, 3) := dk_181 0 20 (dk_at dksX3_init_1 9 rfl rfl)
theorem dX3_init_36 : decode cX3_init 36 = .ok (.aload_n 0, 1) := dk_42 (dk_at dksX3_init_1 12 rfl rfl)
theorem dX3_init_37 : decode cX3_init 37 = .ok (.sipush 500, 3) := dk_17 1 244 (dk_at dksX3_init_1 13 rfl rfl)
theorem dX3_init_40 : decode cX3_init 40 = .ok (.newarray .int, 2) := dk_188_10 (dk_at dksX3_init_1 16 rfl rfl)
theorem dX3_init_42 : decode cX3_init 42 = .ok (.putfield 23, 3) := dk_181 0 23 (dk_at dksX3_init_1 18 rfl rfl)
theorem dX3_init_45 : decode cX3_init 45 = .ok (.aload_n 0, 1) := dk_42 (dk_at dksX3_init_1 21 rfl rfl)
theorem dX3_init_46 : decode cX3_init 46 = .ok (.sipush 500, 3) := dk_17 1 244 (dk_at dksX3_init_2 0 rfl rfl)
theorem dX3_init_49 : decode cX3_init 49 = .ok (.newarray .int, 2) := dk_188_10 (dk_at dksX3_init_2 3 rfl rfl)
theorem dX3_init_51 : decode cX3_init 51 = .ok (.putfield 26, 3) := dk_181 0 26 (dk_at dksX3_init_2 5 rfl rfl)
theorem dX3_init_54 : decode cX3_init 54 = .ok (.aload_n 0, 1) := dk_42 (dk_at dksX3_init_2 8 rfl rfl)
theorem dX3_init_55 : decode cX3_init 55 = .ok (.sipush 500, 3) := dk_17 1 244 (dk_at dksX3_init_2 9 rfl rfl)
theorem dX3_init_58 : decode cX3_init 58 = .ok (.newarray .int, 2) := dk_188_10 (dk_at dksX3_init_2 12 rfl rfl)
theorem dX3_init_60 : decode cX3_init 60 = .ok (.putfield 29, 3) := dk_181 0 29 (dk_at dksX3_init_2 14 rfl rfl)
theorem dX3_init_63 : decode cX3_init 63 = .ok (.aload_n 0, 1) := dk_42 (dk_at dksX3_init_2 17 rfl rfl)
theorem dX3_init_64 : decode cX3_init 64 = .ok (.sipush 500, 3) := dk_17 1 244 (dk_at dksX3_init_2 18 rfl rfl)
theorem dX3_init_67 : decode cX3_init 67 = .ok (.newarray .int, 2) := dk_188_10 (dk_at dksX3_init_2 21 rfl rfl)
theorem dX3_init_69 : decode cX3_init 69 = .ok (.putfield 32, 3) := dk_181 0 32 (dk_at dksX3_init_3 0 rfl rfl)
theorem dX3_init_72 : decode cX3_init 72 = .ok (.aload_n 0, 1) := dk_42 (dk_at dksX3_init_3 3 rfl rfl)
theorem dX3_init_73 : decode cX3_init 73 = .ok (.sipush 500, 3) := dk_17 1 244 (dk_at dksX3_init_3 4 rfl rfl)
theorem dX3_init_76 : decode cX3_init 76 = .ok (.newarray .boolean, 2) := dk_188_4 (dk_at dksX3_init_3 7 rfl rfl)
theorem dX3_init_78 : decode cX3_init 78 = .ok (.putfield 35, 3) := dk_181 0 35 (dk_at dksX3_init_3 9 rfl rfl)
theorem dX3_init_81 : decode cX3_init 81 = .ok (.aload_n 0, 1) := dk_42 (dk_at dksX3_init_3 12 rfl rfl)
theorem dX3_init_82 : decode cX3_init 82 = .ok (.iconst (-1), 1) := dk_2 (dk_at dksX3_init_3 13 rfl rfl)
theorem dX3_init_83 : decode cX3_init 83 = .ok (.putfield 39, 3) := dk_181 0 39 (dk_at dksX3_init_3 14 rfl rfl)
theorem dX3_init_86 : decode cX3_init 86 = .ok (.aload_n 0, 1) := dk_42 (dk_at dksX3_init_3 17 rfl rfl)
theorem dX3_init_87 : decode cX3_init 87 = .ok (.iconst 0, 1) := dk_3 (dk_at dksX3_init_3 18 rfl rfl)
theorem dX3_init_88 : decode cX3_init 88 = .ok (.putfield 42, 3) := dk_181 0 42 (dk_at dksX3_init_3 19 rfl rfl)
theorem dX3_init_91 : decode cX3_init 91 = .ok (.aload_n 0, 1) := dk_42 (dk_at dksX3_init_3 22 rfl rfl)
theorem dX3_init_92 : decode cX3_init 92 = .ok (.iconst 0, 1) := dk_3 (dk_at dksX3_init_3 23 rfl rfl)
theorem dX3_init_93 : decode cX3_init 93 = .ok (.putfield 45, 3) := dk_181 0 45 (dk_at dksX3_init_4 0 rfl rfl)
theorem dX3_init_96 : decode cX3_init 96 = .ok (.aload_n 0, 1) := dk_42 (dk_at dksX3_init_4 3 rfl rfl)
theorem dX3_init_97 : decode cX3_init 97 = .ok (.iconst 0, 1) := dk_3 (dk_at dksX3_init_4 4 rfl rfl)
theorem dX3_init_98 : decode cX3_init 98 = .ok (.putfield 48, 3) := dk_181 0 48 (dk_at dksX3_init_4 5 rfl rfl)
theorem dX3_init_101 : decode cX3_init 101 = .ok (.aload_n 0, 1) := dk_42 (dk_at dksX3_init_4 8 rfl rfl)
theorem dX3_init_102 : decode cX3_init 102 = .ok (.bipush 50, 2) := dk_16 50 (dk_at dksX3_init_4 9 rfl rfl)
theorem dX3_init_104 : decode cX3_init 104 = .ok (.putfield 51, 3) := dk_181 0 51 (dk_at dksX3_init_4 11 rfl rfl)
theorem dX3_init_107 : decode cX3_init 107 = .ok (.aload_n 0, 1) := dk_42 (dk_at dksX3_init_4 14 rfl rfl)
theorem dX3_init_108 : decode cX3_init 108 = .ok (.iconst 0, 1) := dk_3 (dk_at dksX3_init_4 15 rfl rfl)
theorem dX3_init_109 : decode cX3_init 109 = .ok (.putfield 54, 3) := dk_181 0 54 (dk_at dksX3_init_4 16 rfl rfl)
theorem dX3_init_112 : decode cX3_init 112 = .ok (.aload_n 0, 1) := dk_42 (dk_at dksX3_init_4 19 rfl rfl)
theorem dX3_init_113 : decode cX3_init 113 = .ok (.iconst 0, 1) := dk_3 (dk_at dksX3_init_4 20 rfl rfl)
theorem dX3_init_114 : decode cX3_init 114 = .ok (.putfield 57, 3) := dk_181 0 57 (dk_at dksX3_init_4 21 rfl rfl)
theorem dX3_init_117 : decode cX3_init 117 = .ok (.aload_n 0, 1) := dk_42 (dk_at dksX3_init_5 0 rfl rfl)
theorem dX3_init_118 : decode cX3_init 118 = .ok (.sipush 500, 3) := dk_17 1 244 (dk_at dksX3_init_5 1 rfl rfl)
theorem dX3_init_121 : decode cX3_init 121 = .ok (.newarray .int, 2) := dk_188_10 (dk_at dksX3_init_5 4 rfl rfl)
theorem dX3_init_123 : decode cX3_init 123 = .ok (.putfield 60, 3) := dk_181 0 60 (dk_at dksX3_init_5 6 rfl rfl)
theorem dX3_init_126 : decode cX3_init 126 = .ok (.aload_n 0, 1) := dk_42 (dk_at dksX3_init_5 9 rfl rfl)
theorem dX3_init_127 : decode cX3_init 127 = .ok (.iconst 0, 1) := dk_3 (dk_at dksX3_init_5 10 rfl rfl)
theorem dX3_init_128 : decode cX3_init 128 = .ok (.putfield 63, 3) := dk_181 0 63 (dk_at dksX3_init_5 11 rfl rfl)
theorem dX3_init_131 : decode cX3_init 131 = .ok (.aload_n 0, 1) := dk_42 (dk_at dksX3_init_5 14 rfl rfl)
theorem dX3_init_132 : decode cX3_init 132 = .ok (.sipush 500, 3) := dk_17 1 244 (dk_at dksX3_init_5 15 rfl rfl)
theorem dX3_init_135 : decode cX3_init 135 = .ok (.newarray .int, 2) := dk_188_10 (dk_at dksX3_init_5 18 rfl rfl)
theorem dX3_init_137 : decode cX3_init 137 = .ok (.putfield 66, 3) := dk_181 0 66 (dk_at dksX3_init_5 20 rfl rfl)
theorem dX3_init_140 : decode cX3_init 140 = .ok (.aload_n 0, 1) := dk_42 (dk_at dksX3_init_5 23 rfl rfl)
theorem dX3_init_141 : decode cX3_init 141 = .ok (.sipush 500, 3) := dk_17 1 244 (dk_at dksX3_init_6 0 rfl rfl)
theorem dX3_init_144 : decode cX3_init 144 = .ok (.newarray .int, 2) := dk_188_10 (dk_at dksX3_init_6 3 rfl rfl)
theorem dX3_init_146 : decode cX3_init 146 = .ok (.putfield 69, 3) := dk_181 0 69 (dk_at dksX3_init_6 5 rfl rfl)
theorem dX3_init_149 : decode cX3_init 149 = .ok (.aload_n 0, 1) := dk_42 (dk_at dksX3_init_6 8 rfl rfl)
theorem dX3_init_150 : decode cX3_init 150 = .ok (.sipush 2002, 3) := dk_17 7 210 (dk_at dksX3_init_6 9 rfl rfl)
theorem dX3_init_153 : decode cX3_init 153 = .ok (.newarray .int, 2) := dk_188_10 (dk_at dksX3_init_6 12 rfl rfl)
theorem dX3_init_155 : decode cX3_init 155 = .ok (.putfield 72, 3) := dk_181 0 72 (dk_at dksX3_init_6 14 rfl rfl)
theorem dX3_init_158 : decode cX3_init 158 = .ok (.aload_n 0, 1) := dk_42 (dk_at dksX3_init_6 17 rfl rfl)
theorem dX3_init_159 : decode cX3_init 159 = .ok (.sipush 501, 3) := dk_17 1 245 (dk_at dksX3_init_6 18 rfl rfl)
theorem dX3_init_162 : decode cX3_init 162 = .ok (.newarray .int, 2) := dk_188_10 (dk_at dksX3_init_6 21 rfl rfl)
theorem dX3_init_164 : decode cX3_init 164 = .ok (.putfield 75, 3) := dk_181 0 75 (dk_at dksX3_init_7 0 rfl rfl)
theorem dX3_init_167 : decode cX3_init 167 = .ok (.aload_n 0, 1) := dk_42 (dk_at dksX3_init_7 3 rfl rfl)
theorem dX3_init_168 : decode cX3_init 168 = .ok (.iconst 3, 1) := dk_6 (dk_at dksX3_init_7 4 rfl rfl)
theorem dX3_init_169 : decode cX3_init 169 = .ok (.putfield 78, 3) := dk_181 0 78 (dk_at dksX3_init_7 5 rfl rfl)
theorem dX3_init_172 : decode cX3_init 172 = .ok (.aload_n 0, 1) := dk_42 (dk_at dksX3_init_7 8 rfl rfl)
theorem dX3_init_173 : decode cX3_init 173 = .ok (.bipush 8, 2) := dk_16 8 (dk_at dksX3_init_7 9 rfl rfl)
theorem dX3_init_175 : decode cX3_init 175 = .ok (.newarray .int, 2) := dk_188_10 (dk_at dksX3_init_7 11 rfl rfl)
theorem dX3_init_177 : decode cX3_init 177 = .ok (.dup, 1) := dk_89 (dk_at dksX3_init_7 13 rfl rfl)
theorem dX3_init_178 : decode cX3_init 178 = .ok (.iconst 0, 1) := dk_3 (dk_at dksX3_init_7 14 rfl rfl)
theorem dX3_init_179 : decode cX3_init 179 = .ok (.iconst 0, 1) := dk_3 (dk_at dksX3_init_7 15 rfl rfl)
theorem dX3_init_180 : decode cX3_init 180 = .ok (.iastore, 1) := dk_79 (dk_at dksX3_init_7 16 rfl rfl)
theorem dX3_init_181 : decode cX3_init 181 = .ok (.dup, 1) := dk_89 (dk_at dksX3_init_7 17 rfl rfl)
theorem dX3_init_182 : decode cX3_init 182 = .ok (.iconst 1, 1) := dk_4 (dk_at dksX3_init_7 18 rfl rfl)
theorem dX3_init_183 : decode cX3_init 183 = .ok (.iconst 1, 1) := dk_4 (dk_at dksX3_init_7 19 rfl rfl)
theorem dX3_init_184 : decode cX3_init 184 = .ok (.iastore, 1) := dk_79 (dk_at dksX3_init_7 20 rfl rfl)
theorem dX3_init_185 : decode cX3_init 185 = .ok (.dup, 1) := dk_89 (dk_at dksX3_init_7 21 rfl rfl)
theorem dX3_init_186 : decode cX3_init 186 = .ok (.iconst 2, 1) := dk_5 (dk_at dksX3_init_7 22 rfl rfl)
theorem dX3_init_187 : decode cX3_init 187 = .ok (.iconst 2, 1) := dk_5 (dk_at dksX3_init_7 23 rfl rfl)
theorem dX3_init_188 : decode cX3_init 188 = .ok (.iastore, 1) := dk_79 (dk_at dksX3_init_8 0 rfl rfl)
theorem dX3_init_189 : decode cX3_init 189 = .ok (.dup, 1) := dk_89 (dk_at dksX3_init_8 1 rfl rfl)
theorem dX3_init_190 : decode cX3_init 190 = .ok (.iconst 3, 1) := dk_6 (dk_at dksX3_init_8 2 rfl rfl)
theorem dX3_init_191 : decode cX3_init 191 = .ok (.iconst 0, 1) := dk_3 (dk_at dksX3_init_8 3 rfl rfl)
theorem dX3_init_192 : decode cX3_init 192 = .ok (.iastore, 1) := dk_79 (dk_at dksX3_init_8 4 rfl rfl)
theorem dX3_init_193 : decode cX3_init 193 = .ok (.dup, 1) := dk_89 (dk_at dksX3_init_8 5 rfl rfl)
theorem dX3_init_194 : decode cX3_init 194 = .ok (.iconst 4, 1) := dk_7 (dk_at dksX3_init_8 6 rfl rfl)
theorem dX3_init_195 : decode cX3_init 195 = .ok (.iconst 0, 1) := dk_3 (dk_at dksX3_init_8 7 rfl rfl)
theorem dX3_init_196 : decode cX3_init 196 = .ok (.iastore, 1) := dk_79 (dk_at dksX3_init_8 8 rfl rfl)
theorem dX3_init_197 : decode cX3_init 197 = .ok (.dup, 1) := dk_89 (dk_at dksX3_init_8 9 rfl rfl)
theorem dX3_init_198 : decode cX3_init 198 = .ok (.iconst 5, 1) := dk_8 (dk_at dksX3_init_8 10 rfl rfl)
theorem dX3_init_199 : decode cX3_init 199 = .ok (.iconst 0, 1) := dk_3 (dk_at dksX3_init_8 11 rfl rfl)
theorem dX3_init_200 : decode cX3_init 200 = .ok (.iastore, 1) := dk_79 (dk_at dksX3_init_8 12 rfl rfl)
theorem dX3_init_201 : decode cX3_init 201 = .ok (.dup, 1) := dk_89 (dk_at dksX3_init_8 13 rfl rfl)
theorem dX3_init_202 : decode cX3_init 202 = .ok (.bipush 6, 2) := dk_16 6 (dk_at dksX3_init_8 14 rfl rfl)
theorem dX3_init_204 : decode cX3_init 204 = .ok (.iconst 0, 1) := dk_3 (dk_at dksX3_init_8 16 rfl rfl)
theorem dX3_init_205 : decode cX3_init 205 = .ok (.iastore, 1) := dk_79 (dk_at dksX3_init_8 17 rfl rfl)
theorem dX3_init_206 : decode cX3_init 206 = .ok (.dup, 1) := dk_89 (dk_at dksX3_init_8 18 rfl rfl)
theorem dX3_init_207 : decode cX3_init 207 = .ok (.bipush 7, 2) := dk_16 7 (dk_at dksX3_init_8 19 rfl rfl)
theorem dX3_init_209 : decode cX3_init 209 = .ok (.iconst 0, 1) := dk_3 (dk_at dksX3_init_8 21 rfl rfl)
theorem dX3_init_210 : decode cX3_init 210 = .ok (.iastore, 1) := dk_79 (dk_at dksX3_init_8 22 rfl rfl)
theorem dX3_init_211 : decode cX3_init 211 = .ok (.putfield 81, 3) := dk_181 0 81 (dk_at dksX3_init_9 0 rfl rfl)
theorem dX3_init_214 : decode cX3_init 214 = .ok (.aload_n 0, 1) := dk_42 (dk_at dksX3_init_9 3 rfl rfl)
theorem dX3_init_215 : decode cX3_init 215 = .ok (.bipush 8, 2) := dk_16 8 (dk_at dksX3_init_9 4 rfl rfl)
theorem dX3_init_217 : decode cX3_init 217 = .ok (.newarray .int, 2) := dk_188_10 (dk_at dksX3_init_9 6 rfl rfl)
theorem dX3_init_219 : decode cX3_init 219 = .ok (.putfield 84, 3) := dk_181 0 84 (dk_at dksX3_init_9 8 rfl rfl)
theorem dX3_init_222 : decode cX3_init 222 = .ok (.aload_n 0, 1) := dk_42 (dk_at dksX3_init_9 11 rfl rfl)
theorem dX3_init_223 : decode cX3_init 223 = .ok (.bipush 8, 2) := dk_16 8 (dk_at dksX3_init_9 12 rfl rfl)
theorem dX3_init_225 : decode cX3_init 225 = .ok (.newarray .int, 2) := dk_188_10 (dk_at dksX3_init_9 14 rfl rfl)
theorem dX3_init_227 : decode cX3_init 227 = .ok (.putfield 87, 3) := dk_181 0 87 (dk_at dksX3_init_9 16 rfl rfl)
theorem dX3_init_230 : decode cX3_init 230 = .ok (.aload_n 0, 1) := dk_42 (dk_at dksX3_init_9 19 rfl rfl)
theorem dX3_init_231 : decode cX3_init 231 = .ok (.bipush 8, 2) := dk_16 8 (dk_at dksX3_init_9 20 rfl rfl)
theorem dX3_init_233 : decode cX3_init 233 = .ok (.newarray .int, 2) := dk_188_10 (dk_at dksX3_init_9 22 rfl rfl)
theorem dX3_init_235 : decode cX3_init 235 = .ok (.putfield 90, 3) := dk_181 0 90 (dk_at dksX3_init_10 0 rfl rfl)
theorem dX3_init_238 : decode cX3_init 238 = .ok (.aload_n 0, 1) := dk_42 (dk_at dksX3_init_10 3 rfl rfl)
theorem dX3_init_239 : decode cX3_init 239 = .ok (.bipush 8, 2) := dk_16 8 (dk_at dksX3_init_10 4 rfl rfl)
theorem dX3_init_241 : decode cX3_init 241 = .ok (.newarray .int, 2) := dk_188_10 (dk_at dksX3_init_10 6 rfl rfl)
theorem dX3_init_243 : decode cX3_init 243 = .ok (.putfield 93, 3) := dk_181 0 93 (dk_at dksX3_init_10 8 rfl rfl)
theorem dX3_init_246 : decode cX3_init 246 = .ok (.aload_n 0, 1) := dk_42 (dk_at dksX3_init_10 11 rfl rfl)
theorem dX3_init_247 : decode cX3_init 247 = .ok (.sipush 480, 3) := dk_17 1 224 (dk_at dksX3_init_10 12 rfl rfl)
theorem dX3_init_250 : decode cX3_init 250 = .ok (.newarray .int, 2) := dk_188_10 (dk_at dksX3_init_10 15 rfl rfl)
theorem dX3_init_252 : decode cX3_init 252 = .ok (.putfield 96, 3) := dk_181 0 96 (dk_at dksX3_init_10 17 rfl rfl)
theorem dX3_init_255 : decode cX3_init 255 = .ok (.aload_n 0, 1) := dk_42 (dk_at dksX3_init_10 20 rfl rfl)
theorem dX3_init_256 : decode cX3_init 256 = .ok (.sipush 480, 3) := dk_17 1 224 (dk_at dksX3_init_10 21 rfl rfl)
theorem dX3_init_259 : decode cX3_init 259 = .ok (.newarray .int, 2) := dk_188_10 (dk_at dksX3_init_11 0 rfl rfl)
theorem dX3_init_261 : decode cX3_init 261 = .ok (.putfield 99, 3) := dk_181 0 99 (dk_at dksX3_init_11 2 rfl rfl)
theorem dX3_init_264 : decode cX3_init 264 = .ok (.aload_n 0, 1) := dk_42 (dk_at dksX3_init_11 5 rfl rfl)
theorem dX3_init_265 : decode cX3_init 265 = .ok (.sipush 480, 3) := dk_17 1 224 (dk_at dksX3_init_11 6 rfl rfl)
theorem dX3_init_268 : decode cX3_init 268 = .ok (.newarray .int, 2) := dk_188_10 (dk_at dksX3_init_11 9 rfl rfl)
theorem dX3_init_270 : decode cX3_init 270 = .ok (.putfield 102, 3) := dk_181 0 102 (dk_at dksX3_init_11 11 rfl rfl)
theorem dX3_init_273 : decode cX3_init 273 = .ok (.aload_n 0, 1) := dk_42 (dk_at dksX3_init_11 14 rfl rfl)
theorem dX3_init_274 : decode cX3_init 274 = .ok (.sipush 480, 3) := dk_17 1 224 (dk_at dksX3_init_11 15 rfl rfl)
theorem dX3_init_277 : decode cX3_init 277 = .ok (.newarray .boolean, 2) := dk_188_4 (dk_at dksX3_init_11 18 rfl rfl)
theorem dX3_init_279 : decode cX3_init 279 = .ok (.putfield 105, 3) := dk_181 0 105 (dk_at dksX3_init_11 20 rfl rfl)
theorem dX3_init_282 : decode cX3_init 282 = .ok (.aload_n 0, 1) := dk_42 (dk_at dksX3_init_11 23 rfl rfl)
theorem dX3_init_283 : decode cX3_init 283 = .ok (.bipush 60, 2) := dk_16 60 (dk_at dksX3_init_12 0 rfl rfl)
theorem dX3_init_285 : decode cX3_init 285 = .ok (.newarray .int, 2) := dk_188_10 (dk_at dksX3_init_12 2 rfl rfl)
theorem dX3_init_287 : decode cX3_init 287 = .ok (.putfield 108, 3) := dk_181 0 108 (dk_at dksX3_init_12 4 rfl rfl)
theorem dX3_init_290 : decode cX3_init 290 = .ok (.aload_n 0, 1) := dk_42 (dk_at dksX3_init_12 7 rfl rfl)
theorem dX3_init_291 : decode cX3_init 291 = .ok (.iconst 0, 1) := dk_3 (dk_at dksX3_init_12 8 rfl rfl)
theorem dX3_init_292 : decode cX3_init 292 = .ok (.putfield 111, 3) := dk_181 0 111 (dk_at dksX3_init_12 9 rfl rfl)
theorem dX3_init_295 : decode cX3_init 295 = .ok (.aload_n 0, 1) := dk_42 (dk_at dksX3_init_12 12 rfl rfl)
theorem dX3_init_296 : decode cX3_init 296 = .ok (.iconst 0, 1) := dk_3 (dk_at dksX3_init_12 13 rfl rfl)
theorem dX3_init_297 : decode cX3_init 297 = .ok (.putfield 114, 3) := dk_181 0 114 (dk_at dksX3_init_12 14 rfl rfl)
theorem dX3_init_300 : decode cX3_init 300 = .ok (.aload_n 0, 1) := dk_42 (dk_at dksX3_init_12 17 rfl rfl)
theorem dX3_init_301 : decode cX3_init 301 = .ok (.iconst 0, 1) := dk_3 (dk_at dksX3_init_12 18 rfl rfl)
theorem dX3_init_302 : decode cX3_init 302 = .ok (.putfield 117, 3) := dk_181 0 117 (dk_at dksX3_init_12 19 rfl rfl)
theorem dX3_init_305 : decode cX3_init 305 = .ok (.aload_n 0, 1) := dk_42 (dk_at dksX3_init_12 22 rfl rfl)
theorem dX3_init_306 : decode cX3_init 306 = .ok (.iconst 0, 1) := dk_3 (dk_at dksX3_init_12 23 rfl rfl)
theorem dX3_init_307 : decode cX3_init 307 = .ok (.putfield 120, 3) := dk_181 0 120 (dk_at dksX3_init_13 0 rfl rfl)
theorem dX3_init_310 : decode cX3_init 310 = .ok (.aload_n 0, 1) := dk_42 (dk_at dksX3_init_13 3 rfl rfl)
theorem dX3_init_311 : decode cX3_init 311 = .ok (.iconst 4, 1) := dk_7 (dk_at dksX3_init_13 4 rfl rfl)
theorem dX3_init_312 : decode cX3_init 312 = .ok (.newarray .boolean, 2) := dk_188_4 (dk_at dksX3_init_13 5 rfl rfl)
theorem dX3_init_314 : decode cX3_init 314 = .ok (.putfield 124, 3) := dk_181 0 124 (dk_at dksX3_init_13 7 rfl rfl)
theorem dX3_init_317 : decode cX3_init 317 = .ok (.aload_n 0, 1) := dk_42 (dk_at dksX3_init_13 10 rfl rfl)
theorem dX3_init_318 : decode cX3_init 318 = .ok (.iconst 4, 1) := dk_7 (dk_at dksX3_init_13 11 rfl rfl)
theorem dX3_init_319 : decode cX3_init 319 = .ok (.newarray .int, 2) := dk_188_10 (dk_at dksX3_init_13 12 rfl rfl)
theorem dX3_init_321 : decode cX3_init 321 = .ok (.putfield 127, 3) := dk_181 0 127 (dk_at dksX3_init_13 14 rfl rfl)
theorem dX3_init_324 : decode cX3_init 324 = .ok (.aload_n 0, 1) := dk_42 (dk_at dksX3_init_13 17 rfl rfl)
theorem dX3_init_325 : decode cX3_init 325 = .ok (.iconst 4, 1) := dk_7 (dk_at dksX3_init_13 18 rfl rfl)
theorem dX3_init_326 : decode cX3_init 326 = .ok (.newarray .int, 2) := dk_188_10 (dk_at dksX3_init_13 19 rfl rfl)
theorem dX3_init_328 : decode cX3_init 328 = .ok (.putfield 130, 3) := dk_181 0 130 (dk_at dksX3_init_13 21 rfl rfl)
theorem dX3_init_331 : decode cX3_init 331 = .ok (.aload_n 0, 1) := dk_42 (dk_at dksX3_init_14 0 rfl rfl)
theorem dX3_init_332 : decode cX3_init 332 = .ok (.iconst 0, 1) := dk_3 (dk_at dksX3_init_14 1 rfl rfl)
theorem dX3_init_333 : decode cX3_init 333 = .ok (.putfield 133, 3) := dk_181 0 133 (dk_at dksX3_init_14 2 rfl rfl)
theorem dX3_init_336 : decode cX3_init 336 = .ok (.aload_n 0, 1) := dk_42 (dk_at dksX3_init_14 5 rfl rfl)
theorem dX3_init_337 : decode cX3_init 337 = .ok (.sipush 500, 3) := dk_17 1 244 (dk_at dksX3_init_14 6 rfl rfl)
theorem dX3_init_340 : decode cX3_init 340 = .ok (.newarray .int, 2) := dk_188_10 (dk_at dksX3_init_14 9 rfl rfl)
theorem dX3_init_342 : decode cX3_init 342 = .ok (.putfield 136, 3) := dk_181 0 136 (dk_at dksX3_init_14 11 rfl rfl)
theorem dX3_init_345 : decode cX3_init 345 = .ok (.aload_n 0, 1) := dk_42 (dk_at dksX3_init_14 14 rfl rfl)
theorem dX3_init_346 : decode cX3_init 346 = .ok (.sipush 500, 3) := dk_17 1 244 (dk_at dksX3_init_14 15 rfl rfl)
theorem dX3_init_349 : decode cX3_init 349 = .ok (.newarray .int, 2) := dk_188_10 (dk_at dksX3_init_14 18 rfl rfl)
theorem dX3_init_351 : decode cX3_init 351 = .ok (.putfield 139, 3) := dk_181 0 139 (dk_at dksX3_init_14 20 rfl rfl)
theorem dX3_init_354 : decode cX3_init 354 = .ok (.aload_n 0, 1) := dk_42 (dk_at dksX3_init_14 23 rfl rfl)
theorem dX3_init_355 : decode cX3_init 355 = .ok (.sipush 500, 3) := dk_17 1 244 (dk_at dksX3_init_15 0 rfl rfl)
theorem dX3_init_358 : decode cX3_init 358 = .ok (.newarray .int, 2) := dk_188_10 (dk_at dksX3_init_15 3 rfl rfl)
theorem dX3_init_360 : decode cX3_init 360 = .ok (.putfield 142, 3) := dk_181 0 142 (dk_at dksX3_init_15 5 rfl rfl)
theorem dX3_init_363 : decode cX3_init 363 = .ok (.aload_n 0, 1) := dk_42 (dk_at dksX3_init_15 8 rfl rfl)
theorem dX3_init_364 : decode cX3_init 364 = .ok (.sipush 500, 3) := dk_17 1 244 (dk_at dksX3_init_15 9 rfl rfl)
theorem dX3_init_367 : decode cX3_init 367 = .ok (.newarray .int, 2) := dk_188_10 (dk_at dksX3_init_15 12 rfl rfl)
theorem dX3_init_369 : decode cX3_init 369 = .ok (.putfield 145, 3) := dk_181 0 145 (dk_at dksX3_init_15 14 rfl rfl)
theorem dX3_init_372 : decode cX3_init 372 = .ok (.aload_n 0, 1) := dk_42 (dk_at dksX3_init_15 17 rfl rfl)
theorem dX3_init_373 : decode cX3_init 373 = .ok (.sipush 500, 3) := dk_17 1 244 (dk_at dksX3_init_15 18 rfl rfl)
theorem dX3_init_376 : decode cX3_init 376 = .ok (.newarray .int, 2) := dk_188_10 (dk_at dksX3_init_15 21 rfl rfl)
theorem dX3_init_378 : decode cX3_init 378 = .ok (.putfield 148, 3) := dk_181 0 148 (dk_at dksX3_init_16 0 rfl rfl)
theorem dX3_init_381 : decode cX3_init 381 = .ok (.aload_n 0, 1) := dk_42 (dk_at dksX3_init_16 3 rfl rfl)
theorem dX3_init_382 : decode cX3_init 382 = .ok (.sipush 500, 3) := dk_17 1 244 (dk_at dksX3_init_16 4 rfl rfl)
theorem dX3_init_385 : decode cX3_init 385 = .ok (.newarray .int, 2) := dk_188_10 (dk_at dksX3_init_16 7 rfl rfl)
theorem dX3_init_387 : decode cX3_init 387 = .ok (.putfield 151, 3) := dk_181 0 151 (dk_at dksX3_init_16 9 rfl rfl)
theorem dX3_init_390 : decode cX3_init 390 = .ok (.aload_n 0, 1) := dk_42 (dk_at dksX3_init_16 12 rfl rfl)
theorem dX3_init_391 : decode cX3_init 391 = .ok (.sipush 500, 3) := dk_17 1 244 (dk_at dksX3_init_16 13 rfl rfl)
theorem dX3_init_394 : decode cX3_init 394 = .ok (.newarray .int, 2) := dk_188_10 (dk_at dksX3_init_16 16 rfl rfl)
theorem dX3_init_396 : decode cX3_init 396 = .ok (.putfield 154, 3) := dk_181 0 154 (dk_at dksX3_init_16 18 rfl rfl)
theorem dX3_init_399 : decode cX3_init 399 = .ok (.aload_n 0, 1) := dk_42 (dk_at dksX3_init_16 21 rfl rfl)
theorem dX3_init_400 : decode cX3_init 400 = .ok (.bipush 7, 2) := dk_16 7 (dk_at dksX3_init_16 22 rfl rfl)
theorem dX3_init_402 : decode cX3_init 402 = .ok (.newarray .int, 2) := dk_188_10 (dk_at dksX3_init_17 0 rfl rfl)
theorem dX3_init_404 : decode cX3_init 404 = .ok (.putfield 157, 3) := dk_181 0 157 (dk_at dksX3_init_17 2 rfl rfl)
theorem dX3_init_407 : decode cX3_init 407 = .ok (.aload_n 0, 1) := dk_42 (dk_at dksX3_init_17 5 rfl rfl)
theorem dX3_init_408 : decode cX3_init 408 = .ok (.sipush 500, 3) := dk_17 1 244 (dk_at dksX3_init_17 6 rfl rfl)
theorem dX3_init_411 : decode cX3_init 411 = .ok (.newarray .boolean, 2) := dk_188_4 (dk_at dksX3_init_17 9 rfl rfl)
theorem dX3_init_413 : decode cX3_init 413 = .ok (.putfield 160, 3) := dk_181 0 160 (dk_at dksX3_init_17 11 rfl rfl)
theorem dX3_init_416 : decode cX3_init 416 = .ok (.return_, 1) := dk_177 (dk_at dksX3_init_17 14 rfl rfl)
abbrev cX3_insert : ByteArray := prog_10_method_17_code
def yX3_insert : MethodName := ⟨RX3, "insert", "(III)I"⟩
def dkwX3_insert_7 : List UInt8 := [181, 0, 42, 42, 180, 0, 42, 4, 100, 172]
abbrev dktX3_insert_7 : List UInt8 := dkwX3_insert_7 ++ []
def dkwX3_insert_6 : List UInt8 := [42, 180, 0, 42, 182, 0, 199, 42, 89, 180, 0, 45, 4, 96, 181, 0, 45, 42, 89, 180, 0, 42, 4, 96]
abbrev dktX3_insert_6 : List UInt8 := dkwX3_insert_6 ++ dktX3_insert_7
def dkwX3_insert_5 : List UInt8 := [180, 0, 42, 29, 79, 42, 180, 0, 23, 42, 180, 0, 42, 3, 79, 42, 42, 180, 0, 42, 182, 0, 196, 42]
abbrev dktX3_insert_5 : List UInt8 := dkwX3_insert_5 ++ dktX3_insert_6
def dkwX3_insert_4 : List UInt8 := [180, 0, 13, 42, 180, 0, 42, 27, 79, 42, 180, 0, 17, 42, 180, 0, 42, 28, 79, 42, 180, 0, 20, 42]
abbrev dktX3_insert_4 : List UInt8 := dkwX3_insert_4 ++ dktX3_insert_5
def dkwX3_insert_3 : List UInt8 := [160, 0, 9, 42, 5, 182, 0, 190, 172, 42, 180, 0, 45, 16, 100, 160, 0, 7, 42, 182, 0, 194, 42]
abbrev dktX3_insert_3 : List UInt8 := dkwX3_insert_3 ++ dktX3_insert_4
def dkwX3_insert_2 : List UInt8 := [180, 0, 45, 16, 100, 160, 0, 10, 42, 180, 0, 48, 153, 0, 13, 42, 180, 0, 42, 17, 1, 244]
abbrev dktX3_insert_2 : List UInt8 := dkwX3_insert_2 ++ dktX3_insert_3
def dkwX3_insert_1 : List UInt8 := [184, 0, 163, 153, 0, 14, 29, 3, 17, 3, 231, 184, 0, 163, 154, 0, 9, 42, 4, 182, 0, 190, 172, 42]
abbrev dktX3_insert_1 : List UInt8 := dkwX3_insert_1 ++ dktX3_insert_2
def dkwX3_insert_0 : List UInt8 := [42, 3, 181, 0, 1, 27, 17, 252, 24, 17, 3, 232, 184, 0, 163, 153, 0, 25, 28, 27, 17, 3, 232]
abbrev dktX3_insert_0 : List UInt8 := dkwX3_insert_0 ++ dktX3_insert_1
theorem dksX3_insert_0 : cX3_insert.data.toList.drop 0 = dktX3_insert_0 := by decide +kernel
theorem dksX3_insert_1 : cX3_insert.data.toList.drop 23 = dktX3_insert_1 := dk_seg dksX3_insert_0 23 rfl rfl
theorem dksX3_insert_2 : cX3_insert.data.toList.drop 47 = dktX3_insert_2 := dk_seg dksX3_insert_1 24 rfl rfl
theorem dksX3_insert_3 : cX3_insert.data.toList.drop 69 = dktX3_insert_3 := dk_seg dksX3_insert_2 22 rfl rfl
theorem dksX3_insert_4 : cX3_insert.data.toList.drop 92 = dktX3_insert_4 := dk_seg dksX3_insert_3 23 rfl rfl
theorem dksX3_insert_5 : cX3_insert.data.toList.drop 116 = dktX3_insert_5 := dk_seg dksX3_insert_4 24 rfl rfl
theorem dksX3_insert_6 : cX3_insert.data.toList.drop 140 = dktX3_insert_6 := dk_seg dksX3_insert_5 24 rfl rfl
theorem dksX3_insert_7 : cX3_insert.data.toList.drop 164 = dktX3_insert_7 := dk_seg dksX3_insert_6 24 rfl rfl
theorem dX3_insert_0 : decode cX3_insert 0 = .ok (.aload_n 0, 1) := dk_42 (dk_at dksX3_insert_0 0 rfl rfl)
theorem dX3_insert_1 : decode cX3_insert 1 = .ok (.iconst 0, 1) := dk_3 (dk_at dksX3_insert_0 1 rfl rfl)
theorem dX3_insert_2 : decode cX3_insert 2 = .ok (.putfield 1, 3) := dk_181 0 1 (dk_at dksX3_insert_0 2 rfl rfl)
theorem dX3_insert_5 : decode cX3_insert 5 = .ok (.iload_n 1, 1) := dk_27 (dk_at dksX3_insert_0 5 rfl rfl)
theorem dX3_insert_6 : decode cX3_insert 6 = .ok (.sipush (-1000), 3) := dk_17 252 24 (dk_at dksX3_insert_0 6 rfl rfl)
theorem dX3_insert_9 : decode cX3_insert 9 = .ok (.sipush 1000, 3) := dk_17 3 232 (dk_at dksX3_insert_0 9 rfl rfl)
theorem dX3_insert_12 : decode cX3_insert 12 = .ok (.invokestatic 163, 3) := dk_184 0 163 (dk_at dksX3_insert_0 12 rfl rfl)
theorem dX3_insert_15 : decode cX3_insert 15 = .ok (.ifCond .eq 25, 3) := dk_153 0 25 (dk_at dksX3_insert_0 15 rfl rfl)
theorem dX3_insert_18 : decode cX3_insert 18 = .ok (.iload_n 2, 1) := dk_28 (dk_at dksX3_insert_0 18 rfl rfl)
theorem dX3_insert_19 : decode cX3_insert 19 = .ok (.iload_n 1, 1) := dk_27 (dk_at dksX3_insert_0 19 rfl rfl)
theorem dX3_insert_20 : decode cX3_insert 20 = .ok (.sipush 1000, 3) := dk_17 3 232 (dk_at dksX3_insert_0 20 rfl rfl)
theorem dX3_insert_23 : decode cX3_insert 23 = .ok (.invokestatic 163, 3) := dk_184 0 163 (dk_at dksX3_insert_1 0 rfl rfl)
theorem dX3_insert_26 : decode cX3_insert 26 = .ok (.ifCond .eq 14, 3) := dk_153 0 14 (dk_at dksX3_insert_1 3 rfl rfl)
theorem dX3_insert_29 : decode cX3_insert 29 = .ok (.iload_n 3, 1) := dk_29 (dk_at dksX3_insert_1 6 rfl rfl)
theorem dX3_insert_30 : decode cX3_insert 30 = .ok (.iconst 0, 1) := dk_3 (dk_at dksX3_insert_1 7 rfl rfl)
theorem dX3_insert_31 : decode cX3_insert 31 = .ok (.sipush 999, 3) := dk_17 3 231 (dk_at dksX3_insert_1 8 rfl rfl)
theorem dX3_insert_34 : decode cX3_insert 34 = .ok (.invokestatic 163, 3) := dk_184 0 163 (dk_at dksX3_insert_1 11 rfl rfl)
theorem dX3_insert_37 : decode cX3_insert 37 = .ok (.ifCond .ne 9, 3) := dk_154 0 9 (dk_at dksX3_insert_1 14 rfl rfl)
theorem dX3_insert_40 : decode cX3_insert 40 = .ok (.aload_n 0, 1) := dk_42 (dk_at dksX3_insert_1 17 rfl rfl)
theorem dX3_insert_41 : decode cX3_insert 41 = .ok (.iconst 1, 1) := dk_4 (dk_at dksX3_insert_1 18 rfl rfl)
theorem dX3_insert_42 : decode cX3_insert 42 = .ok (.invokevirtual 190, 3) := dk_182 0 190 (dk_at dksX3_insert_1 19 rfl rfl)
theorem dX3_insert_45 : decode cX3_insert 45 = .ok (.ireturn, 1) := dk_172 (dk_at dksX3_insert_1 22 rfl rfl)
theorem dX3_insert_46 : decode cX3_insert 46 = .ok (.aload_n 0, 1) := dk_42 (dk_at dksX3_insert_1 23 rfl rfl)
theorem dX3_insert_47 : decode cX3_insert 47 = .ok (.getfield 45, 3) := dk_180 0 45 (dk_at dksX3_insert_2 0 rfl rfl)
theorem dX3_insert_50 : decode cX3_insert 50 = .ok (.bipush 100, 2) := dk_16 100 (dk_at dksX3_insert_2 3 rfl rfl)
theorem dX3_insert_52 : decode cX3_insert 52 = .ok (.if_icmp .ne 10, 3) := dk_160 0 10 (dk_at dksX3_insert_2 5 rfl rfl)
theorem dX3_insert_55 : decode cX3_insert 55 = .ok (.aload_n 0, 1) := dk_42 (dk_at dksX3_insert_2 8 rfl rfl)
theorem dX3_insert_56 : decode cX3_insert 56 = .ok (.getfield 48, 3) := dk_180 0 48 (dk_at dksX3_insert_2 9 rfl rfl)
theorem dX3_insert_59 : decode cX3_insert 59 = .ok (.ifCond .eq 13, 3) := dk_153 0 13 (dk_at dksX3_insert_2 12 rfl rfl)
theorem dX3_insert_62 : decode cX3_insert 62 = .ok (.aload_n 0, 1) := dk_42 (dk_at dksX3_insert_2 15 rfl rfl)
theorem dX3_insert_63 : decode cX3_insert 63 = .ok (.getfield 42, 3) := dk_180 0 42 (dk_at dksX3_insert_2 16 rfl rfl)
theorem dX3_insert_66 : decode cX3_insert 66 = .ok (.sipush 500, 3) := dk_17 1 244 (dk_at dksX3_insert_2 19 rfl rfl)
theorem dX3_insert_69 : decode cX3_insert 69 = .ok (.if_icmp .ne 9, 3) := dk_160 0 9 (dk_at dksX3_insert_3 0 rfl rfl)
theorem dX3_insert_72 : decode cX3_insert 72 = .ok (.aload_n 0, 1) := dk_42 (dk_at dksX3_insert_3 3 rfl rfl)
theorem dX3_insert_73 : decode cX3_insert 73 = .ok (.iconst 2, 1) := dk_5 (dk_at dksX3_insert_3 4 rfl rfl)
theorem dX3_insert_74 : decode cX3_insert 74 = .ok (.invokevirtual 190, 3) := dk_182 0 190 (dk_at dksX3_insert_3 5 rfl rfl)
theorem dX3_insert_77 : decode cX3_insert 77 = .ok (.ireturn, 1) := dk_172 (dk_at dksX3_insert_3 8 rfl rfl)
theorem dX3_insert_78 : decode cX3_insert 78 = .ok (.aload_n 0, 1) := dk_42 (dk_at dksX3_insert_3 9 rfl rfl)
theorem dX3_insert_79 : decode cX3_insert 79 = .ok (.getfield 45, 3) := dk_180 0 45 (dk_at dksX3_insert_3 10 rfl rfl)
theorem dX3_insert_82 : decode cX3_insert 82 = .ok (.bipush 100, 2) := dk_16 100 (dk_at dksX3_insert_3 13 rfl rfl)
theorem dX3_insert_84 : decode cX3_insert 84 = .ok (.if_icmp .ne 7, 3) := dk_160 0 7 (dk_at dksX3_insert_3 15 rfl rfl)
theorem dX3_insert_87 : decode cX3_insert 87 = .ok (.aload_n 0, 1) := dk_42 (dk_at dksX3_insert_3 18 rfl rfl)
theorem dX3_insert_88 : decode cX3_insert 88 = .ok (.invokevirtual 194, 3) := dk_182 0 194 (dk_at dksX3_insert_3 19 rfl rfl)
theorem dX3_insert_91 : decode cX3_insert 91 = .ok (.aload_n 0, 1) := dk_42 (dk_at dksX3_insert_3 22 rfl rfl)
theorem dX3_insert_92 : decode cX3_insert 92 = .ok (.getfield 13, 3) := dk_180 0 13 (dk_at dksX3_insert_4 0 rfl rfl)
theorem dX3_insert_95 : decode cX3_insert 95 = .ok (.aload_n 0, 1) := dk_42 (dk_at dksX3_insert_4 3 rfl rfl)
theorem dX3_insert_96 : decode cX3_insert 96 = .ok (.getfield 42, 3) := dk_180 0 42 (dk_at dksX3_insert_4 4 rfl rfl)
theorem dX3_insert_99 : decode cX3_insert 99 = .ok (.iload_n 1, 1) := dk_27 (dk_at dksX3_insert_4 7 rfl rfl)
theorem dX3_insert_100 : decode cX3_insert 100 = .ok (.iastore, 1) := dk_79 (dk_at dksX3_insert_4 8 rfl rfl)
theorem dX3_insert_101 : decode cX3_insert 101 = .ok (.aload_n 0, 1) := dk_42 (dk_at dksX3_insert_4 9 rfl rfl)
theorem dX3_insert_102 : decode cX3_insert 102 = .ok (.getfield 17, 3) := dk_180 0 17 (dk_at dksX3_insert_4 10 rfl rfl)
theorem dX3_insert_105 : decode cX3_insert 105 = .ok (.aload_n 0, 1) := dk_42 (dk_at dksX3_insert_4 13 rfl rfl)
theorem dX3_insert_106 : decode cX3_insert 106 = .ok (.getfield 42, 3) := dk_180 0 42 (dk_at dksX3_insert_4 14 rfl rfl)
theorem dX3_insert_109 : decode cX3_insert 109 = .ok (.iload_n 2, 1) := dk_28 (dk_at dksX3_insert_4 17 rfl rfl)
theorem dX3_insert_110 : decode cX3_insert 110 = .ok (.iastore, 1) := dk_79 (dk_at dksX3_insert_4 18 rfl rfl)
theorem dX3_insert_111 : decode cX3_insert 111 = .ok (.aload_n 0, 1) := dk_42 (dk_at dksX3_insert_4 19 rfl rfl)
theorem dX3_insert_112 : decode cX3_insert 112 = .ok (.getfield 20, 3) := dk_180 0 20 (dk_at dksX3_insert_4 20 rfl rfl)
theorem dX3_insert_115 : decode cX3_insert 115 = .ok (.aload_n 0, 1) := dk_42 (dk_at dksX3_insert_4 23 rfl rfl)
theorem dX3_insert_116 : decode cX3_insert 116 = .ok (.getfield 42, 3) := dk_180 0 42 (dk_at dksX3_insert_5 0 rfl rfl)
theorem dX3_insert_119 : decode cX3_insert 119 = .ok (.iload_n 3, 1) := dk_29 (dk_at dksX3_insert_5 3 rfl rfl)
theorem dX3_insert_120 : decode cX3_insert 120 = .ok (.iastore, 1) := dk_79 (dk_at dksX3_insert_5 4 rfl rfl)
theorem dX3_insert_121 : decode cX3_insert 121 = .ok (.aload_n 0, 1) := dk_42 (dk_at dksX3_insert_5 5 rfl rfl)
theorem dX3_insert_122 : decode cX3_insert 122 = .ok (.getfield 23, 3) := dk_180 0 23 (dk_at dksX3_insert_5 6 rfl rfl)
theorem dX3_insert_125 : decode cX3_insert 125 = .ok (.aload_n 0, 1) := dk_42 (dk_at dksX3_insert_5 9 rfl rfl)
theorem dX3_insert_126 : decode cX3_insert 126 = .ok (.getfield 42, 3) := dk_180 0 42 (dk_at dksX3_insert_5 10 rfl rfl)
theorem dX3_insert_129 : decode cX3_insert 129 = .ok (.iconst 0, 1) := dk_3 (dk_at dksX3_insert_5 13 rfl rfl)
theorem dX3_insert_130 : decode cX3_insert 130 = .ok (.iastore, 1) := dk_79 (dk_at dksX3_insert_5 14 rfl rfl)
theorem dX3_insert_131 : decode cX3_insert 131 = .ok (.aload_n 0, 1) := dk_42 (dk_at dksX3_insert_5 15 rfl rfl)
theorem dX3_insert_132 : decode cX3_insert 132 = .ok (.aload_n 0, 1) := dk_42 (dk_at dksX3_insert_5 16 rfl rfl)
theorem dX3_insert_133 : decode cX3_insert 133 = .ok (.getfield 42, 3) := dk_180 0 42 (dk_at dksX3_insert_5 17 rfl rfl)
theorem dX3_insert_136 : decode cX3_insert 136 = .ok (.invokevirtual 196, 3) := dk_182 0 196 (dk_at dksX3_insert_5 20 rfl rfl)
theorem dX3_insert_139 : decode cX3_insert 139 = .ok (.aload_n 0, 1) := dk_42 (dk_at dksX3_insert_5 23 rfl rfl)
theorem dX3_insert_140 : decode cX3_insert 140 = .ok (.aload_n 0, 1) := dk_42 (dk_at dksX3_insert_6 0 rfl rfl)
theorem dX3_insert_141 : decode cX3_insert 141 = .ok (.getfield 42, 3) := dk_180 0 42 (dk_at dksX3_insert_6 1 rfl rfl)
theorem dX3_insert_144 : decode cX3_insert 144 = .ok (.invokevirtual 199, 3) := dk_182 0 199 (dk_at dksX3_insert_6 4 rfl rfl)
theorem dX3_insert_147 : decode cX3_insert 147 = .ok (.aload_n 0, 1) := dk_42 (dk_at dksX3_insert_6 7 rfl rfl)
theorem dX3_insert_148 : decode cX3_insert 148 = .ok (.dup, 1) := dk_89 (dk_at dksX3_insert_6 8 rfl rfl)
theorem dX3_insert_149 : decode cX3_insert 149 = .ok (.getfield 45, 3) := dk_180 0 45 (dk_at dksX3_insert_6 9 rfl rfl)
theorem dX3_insert_152 : decode cX3_insert 152 = .ok (.iconst 1, 1) := dk_4 (dk_at dksX3_insert_6 12 rfl rfl)
theorem dX3_insert_153 : decode cX3_insert 153 = .ok (.iadd, 1) := dk_96 (dk_at dksX3_insert_6 13 rfl rfl)
theorem dX3_insert_154 : decode cX3_insert 154 = .ok (.putfield 45, 3) := dk_181 0 45 (dk_at dksX3_insert_6 14 rfl rfl)
theorem dX3_insert_157 : decode cX3_insert 157 = .ok (.aload_n 0, 1) := dk_42 (dk_at dksX3_insert_6 17 rfl rfl)
theorem dX3_insert_158 : decode cX3_insert 158 = .ok (.dup, 1) := dk_89 (dk_at dksX3_insert_6 18 rfl rfl)
theorem dX3_insert_159 : decode cX3_insert 159 = .ok (.getfield 42, 3) := dk_180 0 42 (dk_at dksX3_insert_6 19 rfl rfl)
theorem dX3_insert_162 : decode cX3_insert 162 = .ok (.iconst 1, 1) := dk_4 (dk_at dksX3_insert_6 22 rfl rfl)
theorem dX3_insert_163 : decode cX3_insert 163 = .ok (.iadd, 1) := dk_96 (dk_at dksX3_insert_6 23 rfl rfl)
theorem dX3_insert_164 : decode cX3_insert 164 = .ok (.putfield 42, 3) := dk_181 0 42 (dk_at dksX3_insert_7 0 rfl rfl)
theorem dX3_insert_167 : decode cX3_insert 167 = .ok (.aload_n 0, 1) := dk_42 (dk_at dksX3_insert_7 3 rfl rfl)
theorem dX3_insert_168 : decode cX3_insert 168 = .ok (.getfield 42, 3) := dk_180 0 42 (dk_at dksX3_insert_7 4 rfl rfl)
theorem dX3_insert_171 : decode cX3_insert 171 = .ok (.iconst 1, 1) := dk_4 (dk_at dksX3_insert_7 7 rfl rfl)
theorem dX3_insert_172 : decode cX3_insert 172 = .ok (.isub, 1) := dk_100 (dk_at dksX3_insert_7 8 rfl rfl)
theorem dX3_insert_173 : decode cX3_insert 173 = .ok (.ireturn, 1) := dk_172 (dk_at dksX3_insert_7 9 rfl rfl)
abbrev cX3_in : ByteArray := prog_10_method_2_code
def yX3_in : MethodName := ⟨RX3, "in", "(III)Z"⟩
def dkwX3_in_0 : List UInt8 := [26, 27, 161, 0, 12, 26, 28, 163, 0, 7, 4, 167, 0, 4, 3, 172]
abbrev dktX3_in_0 : List UInt8 := dkwX3_in_0 ++ []
theorem dksX3_in_0 : cX3_in.data.toList.drop 0 = dktX3_in_0 := by decide +kernel
theorem dX3_in_0 : decode cX3_in 0 = .ok (.iload_n 0, 1) := dk_26 (dk_at dksX3_in_0 0 rfl rfl)
theorem dX3_in_1 : decode cX3_in 1 = .ok (.iload_n 1, 1) := dk_27 (dk_at dksX3_in_0 1 rfl rfl)
theorem dX3_in_2 : decode cX3_in 2 = .ok (.if_icmp .lt 12, 3) := dk_161 0 12 (dk_at dksX3_in_0 2 rfl rfl)
theorem dX3_in_5 : decode cX3_in 5 = .ok (.iload_n 0, 1) := dk_26 (dk_at dksX3_in_0 5 rfl rfl)
theorem dX3_in_6 : decode cX3_in 6 = .ok (.iload_n 2, 1) := dk_28 (dk_at dksX3_in_0 6 rfl rfl)
theorem dX3_in_7 : decode cX3_in 7 = .ok (.if_icmp .gt 7, 3) := dk_163 0 7 (dk_at dksX3_in_0 7 rfl rfl)
theorem dX3_in_10 : decode cX3_in 10 = .ok (.iconst 1, 1) := dk_4 (dk_at dksX3_in_0 10 rfl rfl)
theorem dX3_in_11 : decode cX3_in 11 = .ok (.goto 4, 3) := dk_167 0 4 (dk_at dksX3_in_0 11 rfl rfl)
theorem dX3_in_14 : decode cX3_in 14 = .ok (.iconst 0, 1) := dk_3 (dk_at dksX3_in_0 14 rfl rfl)
theorem dX3_in_15 : decode cX3_in 15 = .ok (.ireturn, 1) := dk_172 (dk_at dksX3_in_0 15 rfl rfl)
abbrev cX3_fails : ByteArray := prog_10_method_3_code
def yX3_fails : MethodName := ⟨RX3, "fails", "(I)I"⟩
def dkwX3_fails_0 : List UInt8 := [42, 27, 181, 0, 1, 3, 172]
abbrev dktX3_fails_0 : List UInt8 := dkwX3_fails_0 ++ []
theorem dksX3_fails_0 : cX3_fails.data.toList.drop 0 = dktX3_fails_0 := by decide +kernel
theorem dX3_fails_0 : decode cX3_fails 0 = .ok (.aload_n 0, 1) := dk_42 (dk_at dksX3_fails_0 0 rfl rfl)
theorem dX3_fails_1 : decode cX3_fails 1 = .ok (.iload_n 1, 1) := dk_27 (dk_at dksX3_fails_0 1 rfl rfl)
theorem dX3_fails_2 : decode cX3_fails 2 = .ok (.putfield 1, 3) := dk_181 0 1 (dk_at dksX3_fails_0 2 rfl rfl)
theorem dX3_fails_5 : decode cX3_fails 5 = .ok (.iconst 0, 1) := dk_3 (dk_at dksX3_fails_0 5 rfl rfl)
theorem dX3_fails_6 : decode cX3_fails 6 = .ok (.ireturn, 1) := dk_172 (dk_at dksX3_fails_0 6 rfl rfl)
abbrev cX3_rebuilds : ByteArray := prog_10_method_16_code
def yX3_rebuilds : MethodName := ⟨RX3, "rebuilds", "()V"⟩
def dkwX3_rebuilds_8 : List UInt8 := [181, 0, 57, 177]
abbrev dktX3_rebuilds_8 : List UInt8 := dkwX3_rebuilds_8 ++ []
def dkwX3_rebuilds_7 : List UInt8 := [181, 0, 48, 42, 89, 180, 0, 54, 4, 96, 181, 0, 54, 42, 89, 180, 0, 57, 42, 180, 0, 45, 96]
abbrev dktX3_rebuilds_7 : List UInt8 := dkwX3_rebuilds_7 ++ dktX3_rebuilds_8
def dkwX3_rebuilds_6 : List UInt8 := [4, 167, 0, 4, 3, 84, 132, 2, 1, 167, 255, 214, 42, 42, 180, 0, 63, 181, 0, 45, 42, 3]
abbrev dktX3_rebuilds_6 : List UInt8 := dkwX3_rebuilds_6 ++ dktX3_rebuilds_7
def dkwX3_rebuilds_5 : List UInt8 := [180, 0, 35, 42, 180, 0, 60, 28, 46, 42, 180, 0, 69, 42, 180, 0, 60, 28, 46, 46, 27, 160, 0, 7]
abbrev dktX3_rebuilds_5 : List UInt8 := dkwX3_rebuilds_5 ++ dktX3_rebuilds_6
def dkwX3_rebuilds_4 : List UInt8 := [180, 0, 66, 27, 46, 4, 27, 120, 162, 0, 50, 3, 61, 28, 42, 180, 0, 63, 162, 0, 40, 42]
abbrev dktX3_rebuilds_4 : List UInt8 := dkwX3_rebuilds_4 ++ dktX3_rebuilds_5
def dkwX3_rebuilds_3 : List UInt8 := [181, 0, 39, 3, 60, 42, 180, 0, 66, 27, 4, 96, 46, 158, 0, 9, 132, 1, 1, 167, 255, 242, 42]
abbrev dktX3_rebuilds_3 : List UInt8 := dkwX3_rebuilds_3 ++ dktX3_rebuilds_4
def dkwX3_rebuilds_2 : List UInt8 := [180, 0, 66, 27, 3, 79, 132, 1, 1, 167, 255, 239, 42, 42, 3, 42, 180, 0, 63, 2, 3, 182, 0, 183]
abbrev dktX3_rebuilds_2 : List UInt8 := dkwX3_rebuilds_2 ++ dktX3_rebuilds_3
def dkwX3_rebuilds_1 : List UInt8 := [27, 5, 79, 132, 1, 1, 167, 255, 228, 42, 182, 0, 187, 3, 60, 27, 17, 1, 244, 162, 0, 16, 42]
abbrev dktX3_rebuilds_1 : List UInt8 := dkwX3_rebuilds_1 ++ dktX3_rebuilds_2
def dkwX3_rebuilds_0 : List UInt8 := [3, 60, 27, 42, 180, 0, 42, 162, 0, 26, 42, 180, 0, 23, 27, 46, 4, 160, 0, 10, 42, 180, 0, 23]
abbrev dktX3_rebuilds_0 : List UInt8 := dkwX3_rebuilds_0 ++ dktX3_rebuilds_1
theorem dksX3_rebuilds_0 : cX3_rebuilds.data.toList.drop 0 = dktX3_rebuilds_0 := by decide +kernel
theorem dksX3_rebuilds_1 : cX3_rebuilds.data.toList.drop 24 = dktX3_rebuilds_1 := dk_seg dksX3_rebuilds_0 24 rfl rfl
theorem dksX3_rebuilds_2 : cX3_rebuilds.data.toList.drop 47 = dktX3_rebuilds_2 := dk_seg dksX3_rebuilds_1 23 rfl rfl
theorem dksX3_rebuilds_3 : cX3_rebuilds.data.toList.drop 71 = dktX3_rebuilds_3 := dk_seg dksX3_rebuilds_2 24 rfl rfl
theorem dksX3_rebuilds_4 : cX3_rebuilds.data.toList.drop 94 = dktX3_rebuilds_4 := dk_seg dksX3_rebuilds_3 23 rfl rfl
theorem dksX3_rebuilds_5 : cX3_rebuilds.data.toList.drop 116 = dktX3_rebuilds_5 := dk_seg dksX3_rebuilds_4 22 rfl rfl
theorem dksX3_rebuilds_6 : cX3_rebuilds.data.toList.drop 140 = dktX3_rebuilds_6 := dk_seg dksX3_rebuilds_5 24 rfl rfl
theorem dksX3_rebuilds_7 : cX3_rebuilds.data.toList.drop 162 = dktX3_rebuilds_7 := dk_seg dksX3_rebuilds_6 22 rfl rfl
theorem dksX3_rebuilds_8 : cX3_rebuilds.data.toList.drop 185 = dktX3_rebuilds_8 := dk_seg dksX3_rebuilds_7 23 rfl rfl
theorem dX3_rebuilds_0 : decode cX3_rebuilds 0 = .ok (.iconst 0, 1) := dk_3 (dk_at dksX3_rebuilds_0 0 rfl rfl)
theorem dX3_rebuilds_1 : decode cX3_rebuilds 1 = .ok (.istore_n 1, 1) := dk_60 (dk_at dksX3_rebuilds_0 1 rfl rfl)
theorem dX3_rebuilds_2 : decode cX3_rebuilds 2 = .ok (.iload_n 1, 1) := dk_27 (dk_at dksX3_rebuilds_0 2 rfl rfl)
theorem dX3_rebuilds_3 : decode cX3_rebuilds 3 = .ok (.aload_n 0, 1) := dk_42 (dk_at dksX3_rebuilds_0 3 rfl rfl)
theorem dX3_rebuilds_4 : decode cX3_rebuilds 4 = .ok (.getfield 42, 3) := dk_180 0 42 (dk_at dksX3_rebuilds_0 4 rfl rfl)
theorem dX3_rebuilds_7 : decode cX3_rebuilds 7 = .ok (.if_icmp .ge 26, 3) := dk_162 0 26 (dk_at dksX3_rebuilds_0 7 rfl rfl)
theorem dX3_rebuilds_10 : decode cX3_rebuilds 10 = .ok (.aload_n 0, 1) := dk_42 (dk_at dksX3_rebuilds_0 10 rfl rfl)
theorem dX3_rebuilds_11 : decode cX3_rebuilds 11 = .ok (.getfield 23, 3) := dk_180 0 23 (dk_at dksX3_rebuilds_0 11 rfl rfl)
theorem dX3_rebuilds_14 : decode cX3_rebuilds 14 = .ok (.iload_n 1, 1) := dk_27 (dk_at dksX3_rebuilds_0 14 rfl rfl)
theorem dX3_rebuilds_15 : decode cX3_rebuilds 15 = .ok (.iaload, 1) := dk_46 (dk_at dksX3_rebuilds_0 15 rfl rfl)
theorem dX3_rebuilds_16 : decode cX3_rebuilds 16 = .ok (.iconst 1, 1) := dk_4 (dk_at dksX3_rebuilds_0 16 rfl rfl)
theorem dX3_rebuilds_17 : decode cX3_rebuilds 17 = .ok (.if_icmp .ne 10, 3) := dk_160 0 10 (dk_at dksX3_rebuilds_0 17 rfl rfl)
theorem dX3_rebuilds_20 : decode cX3_rebuilds 20 = .ok (.aload_n 0, 1) := dk_42 (dk_at dksX3_rebuilds_0 20 rfl rfl)
theorem dX3_rebuilds_21 : decode cX3_rebuilds 21 = .ok (.getfield 23, 3) := dk_180 0 23 (dk_at dksX3_rebuilds_0 21 rfl rfl)
theorem dX3_rebuilds_24 : decode cX3_rebuilds 24 = .ok (.iload_n 1, 1) := dk_27 (dk_at dksX3_rebuilds_1 0 rfl rfl)
theorem dX3_rebuilds_25 : decode cX3_rebuilds 25 = .ok (.iconst 2, 1) := dk_5 (dk_at dksX3_rebuilds_1 1 rfl rfl)
theorem dX3_rebuilds_26 : decode cX3_rebuilds 26 = .ok (.iastore, 1) := dk_79 (dk_at dksX3_rebuilds_1 2 rfl rfl)
theorem dX3_rebuilds_27 : decode cX3_rebuilds 27 = .ok (.iinc 1 1, 3) := dk_132 1 1 (dk_at dksX3_rebuilds_1 3 rfl rfl)
theorem dX3_rebuilds_30 : decode cX3_rebuilds 30 = .ok (.goto (-28), 3) := dk_167 255 228 (dk_at dksX3_rebuilds_1 6 rfl rfl)
theorem dX3_rebuilds_33 : decode cX3_rebuilds 33 = .ok (.aload_n 0, 1) := dk_42 (dk_at dksX3_rebuilds_1 9 rfl rfl)
theorem dX3_rebuilds_34 : decode cX3_rebuilds 34 = .ok (.invokevirtual 187, 3) := dk_182 0 187 (dk_at dksX3_rebuilds_1 10 rfl rfl)
theorem dX3_rebuilds_37 : decode cX3_rebuilds 37 = .ok (.iconst 0, 1) := dk_3 (dk_at dksX3_rebuilds_1 13 rfl rfl)
theorem dX3_rebuilds_38 : decode cX3_rebuilds 38 = .ok (.istore_n 1, 1) := dk_60 (dk_at dksX3_rebuilds_1 14 rfl rfl)
theorem dX3_rebuilds_39 : decode cX3_rebuilds 39 = .ok (.iload_n 1, 1) := dk_27 (dk_at dksX3_rebuilds_1 15 rfl rfl)
theorem dX3_rebuilds_40 : decode cX3_rebuilds 40 = .ok (.sipush 500, 3) := dk_17 1 244 (dk_at dksX3_rebuilds_1 16 rfl rfl)
theorem dX3_rebuilds_43 : decode cX3_rebuilds 43 = .ok (.if_icmp .ge 16, 3) := dk_162 0 16 (dk_at dksX3_rebuilds_1 19 rfl rfl)
theorem dX3_rebuilds_46 : decode cX3_rebuilds 46 = .ok (.aload_n 0, 1) := dk_42 (dk_at dksX3_rebuilds_1 22 rfl rfl)
theorem dX3_rebuilds_47 : decode cX3_rebuilds 47 = .ok (.getfield 66, 3) := dk_180 0 66 (dk_at dksX3_rebuilds_2 0 rfl rfl)
theorem dX3_rebuilds_50 : decode cX3_rebuilds 50 = .ok (.iload_n 1, 1) := dk_27 (dk_at dksX3_rebuilds_2 3 rfl rfl)
theorem dX3_rebuilds_51 : decode cX3_rebuilds 51 = .ok (.iconst 0, 1) := dk_3 (dk_at dksX3_rebuilds_2 4 rfl rfl)
theorem dX3_rebuilds_52 : decode cX3_rebuilds 52 = .ok (.iastore, 1) := dk_79 (dk_at dksX3_rebuilds_2 5 rfl rfl)
theorem dX3_rebuilds_53 : decode cX3_rebuilds 53 = .ok (.iinc 1 1, 3) := dk_132 1 1 (dk_at dksX3_rebuilds_2 6 rfl rfl)
theorem dX3_rebuilds_56 : decode cX3_rebuilds 56 = .ok (.goto (-17), 3) := dk_167 255 239 (dk_at dksX3_rebuilds_2 9 rfl rfl)
theorem dX3_rebuilds_59 : decode cX3_rebuilds 59 = .ok (.aload_n 0, 1) := dk_42 (dk_at dksX3_rebuilds_2 12 rfl rfl)
theorem dX3_rebuilds_60 : decode cX3_rebuilds 60 = .ok (.aload_n 0, 1) := dk_42 (dk_at dksX3_rebuilds_2 13 rfl rfl)
theorem dX3_rebuilds_61 : decode cX3_rebuilds 61 = .ok (.iconst 0, 1) := dk_3 (dk_at dksX3_rebuilds_2 14 rfl rfl)
theorem dX3_rebuilds_62 : decode cX3_rebuilds 62 = .ok (.aload_n 0, 1) := dk_42 (dk_at dksX3_rebuilds_2 15 rfl rfl)
theorem dX3_rebuilds_63 : decode cX3_rebuilds 63 = .ok (.getfield 63, 3) := dk_180 0 63 (dk_at dksX3_rebuilds_2 16 rfl rfl)
theorem dX3_rebuilds_66 : decode cX3_rebuilds 66 = .ok (.iconst (-1), 1) := dk_2 (dk_at dksX3_rebuilds_2 19 rfl rfl)
theorem dX3_rebuilds_67 : decode cX3_rebuilds 67 = .ok (.iconst 0, 1) := dk_3 (dk_at dksX3_rebuilds_2 20 rfl rfl)
theorem dX3_rebuilds_68 : decode cX3_rebuilds 68 = .ok (.invokevirtual 183, 3) := dk_182 0 183 (dk_at dksX3_rebuilds_2 21 rfl rfl)
theorem dX3_rebuilds_71 : decode cX3_rebuilds 71 = .ok (.putfield 39, 3) := dk_181 0 39 (dk_at dksX3_rebuilds_3 0 rfl rfl)
theorem dX3_rebuilds_74 : decode cX3_rebuilds 74 = .ok (.iconst 0, 1) := dk_3 (dk_at dksX3_rebuilds_3 3 rfl rfl)
theorem dX3_rebuilds_75 : decode cX3_rebuilds 75 = .ok (.istore_n 1, 1) := dk_60 (dk_at dksX3_rebuilds_3 4 rfl rfl)
theorem dX3_rebuilds_76 : decode cX3_rebuilds 76 = .ok (.aload_n 0, 1) := dk_42 (dk_at dksX3_rebuilds_3 5 rfl rfl)
theorem dX3_rebuilds_77 : decode cX3_rebuilds 77 = .ok (.getfield 66, 3) := dk_180 0 66 (dk_at dksX3_rebuilds_3 6 rfl rfl)
theorem dX3_rebuilds_80 : decode cX3_rebuilds 80 = .ok (.iload_n 1, 1) := dk_27 (dk_at dksX3_rebuilds_3 9 rfl rfl)
theorem dX3_rebuilds_81 : decode cX3_rebuilds 81 = .ok (.iconst 1, 1) := dk_4 (dk_at dksX3_rebuilds_3 10 rfl rfl)
theorem dX3_rebuilds_82 : decode cX3_rebuilds 82 = .ok (.iadd, 1) := dk_96 (dk_at dksX3_rebuilds_3 11 rfl rfl)
theorem dX3_rebuilds_83 : decode cX3_rebuilds 83 = .ok (.iaload, 1) := dk_46 (dk_at dksX3_rebuilds_3 12 rfl rfl)
theorem dX3_rebuilds_84 : decode cX3_rebuilds 84 = .ok (.ifCond .le 9, 3) := dk_158 0 9 (dk_at dksX3_rebuilds_3 13 rfl rfl)
theorem dX3_rebuilds_87 : decode cX3_rebuilds 87 = .ok (.iinc 1 1, 3) := dk_132 1 1 (dk_at dksX3_rebuilds_3 16 rfl rfl)
theorem dX3_rebuilds_90 : decode cX3_rebuilds 90 = .ok (.goto (-14), 3) := dk_167 255 242 (dk_at dksX3_rebuilds_3 19 rfl rfl)
theorem dX3_rebuilds_93 : decode cX3_rebuilds 93 = .ok (.aload_n 0, 1) := dk_42 (dk_at dksX3_rebuilds_3 22 rfl rfl)
theorem dX3_rebuilds_94 : decode cX3_rebuilds 94 = .ok (.getfield 66, 3) := dk_180 0 66 (dk_at dksX3_rebuilds_4 0 rfl rfl)
theorem dX3_rebuilds_97 : decode cX3_rebuilds 97 = .ok (.iload_n 1, 1) := dk_27 (dk_at dksX3_rebuilds_4 3 rfl rfl)
theorem dX3_rebuilds_98 : decode cX3_rebuilds 98 = .ok (.iaload, 1) := dk_46 (dk_at dksX3_rebuilds_4 4 rfl rfl)
theorem dX3_rebuilds_99 : decode cX3_rebuilds 99 = .ok (.iconst 1, 1) := dk_4 (dk_at dksX3_rebuilds_4 5 rfl rfl)
theorem dX3_rebuilds_100 : decode cX3_rebuilds 100 = .ok (.iload_n 1, 1) := dk_27 (dk_at dksX3_rebuilds_4 6 rfl rfl)
theorem dX3_rebuilds_101 : decode cX3_rebuilds 101 = .ok (.ishl, 1) := dk_120 (dk_at dksX3_rebuilds_4 7 rfl rfl)
theorem dX3_rebuilds_102 : decode cX3_rebuilds 102 = .ok (.if_icmp .ge 50, 3) := dk_162 0 50 (dk_at dksX3_rebuilds_4 8 rfl rfl)
theorem dX3_rebuilds_105 : decode cX3_rebuilds 105 = .ok (.iconst 0, 1) := dk_3 (dk_at dksX3_rebuilds_4 11 rfl rfl)
theorem dX3_rebuilds_106 : decode cX3_rebuilds 106 = .ok (.istore_n 2, 1) := dk_61 (dk_at dksX3_rebuilds_4 12 rfl rfl)
theorem dX3_rebuilds_107 : decode cX3_rebuilds 107 = .ok (.iload_n 2, 1) := dk_28 (dk_at dksX3_rebuilds_4 13 rfl rfl)
theorem dX3_rebuilds_108 : decode cX3_rebuilds 108 = .ok (.aload_n 0, 1) := dk_42 (dk_at dksX3_rebuilds_4 14 rfl rfl)
theorem dX3_rebuilds_109 : decode cX3_rebuilds 109 = .ok (.getfield 63, 3) := dk_180 0 63 (dk_at dksX3_rebuilds_4 15 rfl rfl)
theorem dX3_rebuilds_112 : decode cX3_rebuilds 112 = .ok (.if_icmp .ge 40, 3) := dk_162 0 40 (dk_at dksX3_rebuilds_4 18 rfl rfl)
theorem dX3_rebuilds_115 : decode cX3_rebuilds 115 = .ok (.aload_n 0, 1) := dk_42 (dk_at dksX3_rebuilds_4 21 rfl rfl)
theorem dX3_rebuilds_116 : decode cX3_rebuilds 116 = .ok (.getfield 35, 3) := dk_180 0 35 (dk_at dksX3_rebuilds_5 0 rfl rfl)
theorem dX3_rebuilds_119 : decode cX3_rebuilds 119 = .ok (.aload_n 0, 1) := dk_42 (dk_at dksX3_rebuilds_5 3 rfl rfl)
theorem dX3_rebuilds_120 : decode cX3_rebuilds 120 = .ok (.getfield 60, 3) := dk_180 0 60 (dk_at dksX3_rebuilds_5 4 rfl rfl)
theorem dX3_rebuilds_123 : decode cX3_rebuilds 123 = .ok (.iload_n 2, 1) := dk_28 (dk_at dksX3_rebuilds_5 7 rfl rfl)
theorem dX3_rebuilds_124 : decode cX3_rebuilds 124 = .ok (.iaload, 1) := dk_46 (dk_at dksX3_rebuilds_5 8 rfl rfl)
theorem dX3_rebuilds_125 : decode cX3_rebuilds 125 = .ok (.aload_n 0, 1) := dk_42 (dk_at dksX3_rebuilds_5 9 rfl rfl)
theorem dX3_rebuilds_126 : decode cX3_rebuilds 126 = .ok (.getfield 69, 3) := dk_180 0 69 (dk_at dksX3_rebuilds_5 10 rfl rfl)
theorem dX3_rebuilds_129 : decode cX3_rebuilds 129 = .ok (.aload_n 0, 1) := dk_42 (dk_at dksX3_rebuilds_5 13 rfl rfl)
theorem dX3_rebuilds_130 : decode cX3_rebuilds 130 = .ok (.getfield 60, 3) := dk_180 0 60 (dk_at dksX3_rebuilds_5 14 rfl rfl)
theorem dX3_rebuilds_133 : decode cX3_rebuilds 133 = .ok (.iload_n 2, 1) := dk_28 (dk_at dksX3_rebuilds_5 17 rfl rfl)
theorem dX3_rebuilds_134 : decode cX3_rebuilds 134 = .ok (.iaload, 1) := dk_46 (dk_at dksX3_rebuilds_5 18 rfl rfl)
theorem dX3_rebuilds_135 : decode cX3_rebuilds 135 = .ok (.iaload, 1) := dk_46 (dk_at dksX3_rebuilds_5 19 rfl rfl)
theorem dX3_rebuilds_136 : decode cX3_rebuilds 136 = .ok (.iload_n 1, 1) := dk_27 (dk_at dksX3_rebuilds_5 20 rfl rfl)
theorem dX3_rebuilds_137 : decode cX3_rebuilds 137 = .ok (.if_icmp .ne 7, 3) := dk_160 0 7 (dk_at dksX3_rebuilds_5 21 rfl rfl)
theorem dX3_rebuilds_140 : decode cX3_rebuilds 140 = .ok (.iconst 1, 1) := dk_4 (dk_at dksX3_rebuilds_6 0 rfl rfl)
theorem dX3_rebuilds_141 : decode cX3_rebuilds 141 = .ok (.goto 4, 3) := dk_167 0 4 (dk_at dksX3_rebuilds_6 1 rfl rfl)
theorem dX3_rebuilds_144 : decode cX3_rebuilds 144 = .ok (.iconst 0, 1) := dk_3 (dk_at dksX3_rebuilds_6 4 rfl rfl)
theorem dX3_rebuilds_145 : decode cX3_rebuilds 145 = .ok (.bastore, 1) := dk_84 (dk_at dksX3_rebuilds_6 5 rfl rfl)
theorem dX3_rebuilds_146 : decode cX3_rebuilds 146 = .ok (.iinc 2 1, 3) := dk_132 2 1 (dk_at dksX3_rebuilds_6 6 rfl rfl)
theorem dX3_rebuilds_149 : decode cX3_rebuilds 149 = .ok (.goto (-42), 3) := dk_167 255 214 (dk_at dksX3_rebuilds_6 9 rfl rfl)
theorem dX3_rebuilds_152 : decode cX3_rebuilds 152 = .ok (.aload_n 0, 1) := dk_42 (dk_at dksX3_rebuilds_6 12 rfl rfl)
theorem dX3_rebuilds_153 : decode cX3_rebuilds 153 = .ok (.aload_n 0, 1) := dk_42 (dk_at dksX3_rebuilds_6 13 rfl rfl)
theorem dX3_rebuilds_154 : decode cX3_rebuilds 154 = .ok (.getfield 63, 3) := dk_180 0 63 (dk_at dksX3_rebuilds_6 14 rfl rfl)
theorem dX3_rebuilds_157 : decode cX3_rebuilds 157 = .ok (.putfield 45, 3) := dk_181 0 45 (dk_at dksX3_rebuilds_6 17 rfl rfl)
theorem dX3_rebuilds_160 : decode cX3_rebuilds 160 = .ok (.aload_n 0, 1) := dk_42 (dk_at dksX3_rebuilds_6 20 rfl rfl)
theorem dX3_rebuilds_161 : decode cX3_rebuilds 161 = .ok (.iconst 0, 1) := dk_3 (dk_at dksX3_rebuilds_6 21 rfl rfl)
theorem dX3_rebuilds_162 : decode cX3_rebuilds 162 = .ok (.putfield 48, 3) := dk_181 0 48 (dk_at dksX3_rebuilds_7 0 rfl rfl)
theorem dX3_rebuilds_165 : decode cX3_rebuilds 165 = .ok (.aload_n 0, 1) := dk_42 (dk_at dksX3_rebuilds_7 3 rfl rfl)
theorem dX3_rebuilds_166 : decode cX3_rebuilds 166 = .ok (.dup, 1) := dk_89 (dk_at dksX3_rebuilds_7 4 rfl rfl)
theorem dX3_rebuilds_167 : decode cX3_rebuilds 167 = .ok (.getfield 54, 3) := dk_180 0 54 (dk_at dksX3_rebuilds_7 5 rfl rfl)
theorem dX3_rebuilds_170 : decode cX3_rebuilds 170 = .ok (.iconst 1, 1) := dk_4 (dk_at dksX3_rebuilds_7 8 rfl rfl)
theorem dX3_rebuilds_171 : decode cX3_rebuilds 171 = .ok (.iadd, 1) := dk_96 (dk_at dksX3_rebuilds_7 9 rfl rfl)
theorem dX3_rebuilds_172 : decode cX3_rebuilds 172 = .ok (.putfield 54, 3) := dk_181 0 54 (dk_at dksX3_rebuilds_7 10 rfl rfl)
theorem dX3_rebuilds_175 : decode cX3_rebuilds 175 = .ok (.aload_n 0, 1) := dk_42 (dk_at dksX3_rebuilds_7 13 rfl rfl)
theorem dX3_rebuilds_176 : decode cX3_rebuilds 176 = .ok (.dup, 1) := dk_89 (dk_at dksX3_rebuilds_7 14 rfl rfl)
theorem dX3_rebuilds_177 : decode cX3_rebuilds 177 = .ok (.getfield 57, 3) := dk_180 0 57 (dk_at dksX3_rebuilds_7 15 rfl rfl)
theorem dX3_rebuilds_180 : decode cX3_rebuilds 180 = .ok (.aload_n 0, 1) := dk_42 (dk_at dksX3_rebuilds_7 18 rfl rfl)
theorem dX3_rebuilds_181 : decode cX3_rebuilds 181 = .ok (.getfield 45, 3) := dk_180 0 45 (dk_at dksX3_rebuilds_7 19 rfl rfl)
theorem dX3_rebuilds_184 : decode cX3_rebuilds 184 = .ok (.iadd, 1) := dk_96 (dk_at dksX3_rebuilds_7 22 rfl rfl)
theorem dX3_rebuilds_185 : decode cX3_rebuilds 185 = .ok (.putfield 57, 3) := dk_181 0 57 (dk_at dksX3_rebuilds_8 0 rfl rfl)
theorem dX3_rebuilds_188 : decode cX3_rebuilds 188 = .ok (.return_, 1) := dk_177 (dk_at dksX3_rebuilds_8 3 rfl rfl)
abbrev cX3_layRow : ByteArray := prog_10_method_10_code
def yX3_layRow : MethodName := ⟨RX3, "layRow", "()V"⟩
def dkwX3_layRow_4 : List UInt8 := [167, 255, 171, 177]
abbrev dktX3_layRow_4 : List UInt8 := dkwX3_layRow_4 ++ []
def dkwX3_layRow_3 : List UInt8 := [167, 255, 219, 42, 180, 0, 60, 28, 27, 79, 42, 89, 180, 0, 63, 4, 96, 181, 0, 63, 132, 1, 1]
abbrev dktX3_layRow_3 : List UInt8 := dkwX3_layRow_3 ++ dktX3_layRow_4
def dkwX3_layRow_2 : List UInt8 := [182, 0, 171, 153, 0, 23, 42, 180, 0, 60, 28, 42, 180, 0, 60, 28, 4, 100, 46, 79, 132, 2, 255]
abbrev dktX3_layRow_2 : List UInt8 := dkwX3_layRow_2 ++ dktX3_layRow_3
def dkwX3_layRow_1 : List UInt8 := [167, 0, 65, 42, 180, 0, 63, 61, 28, 158, 0, 39, 42, 27, 42, 180, 0, 60, 28, 4, 100, 46]
abbrev dktX3_layRow_1 : List UInt8 := dkwX3_layRow_1 ++ dktX3_layRow_2
def dkwX3_layRow_0 : List UInt8 := [42, 3, 181, 0, 63, 3, 60, 27, 42, 180, 0, 42, 162, 0, 83, 42, 180, 0, 23, 27, 46, 153, 0, 6]
abbrev dktX3_layRow_0 : List UInt8 := dkwX3_layRow_0 ++ dktX3_layRow_1
theorem dksX3_layRow_0 : cX3_layRow.data.toList.drop 0 = dktX3_layRow_0 := by decide +kernel
theorem dksX3_layRow_1 : cX3_layRow.data.toList.drop 24 = dktX3_layRow_1 := dk_seg dksX3_layRow_0 24 rfl rfl
theorem dksX3_layRow_2 : cX3_layRow.data.toList.drop 46 = dktX3_layRow_2 := dk_seg dksX3_layRow_1 22 rfl rfl
theorem dksX3_layRow_3 : cX3_layRow.data.toList.drop 69 = dktX3_layRow_3 := dk_seg dksX3_layRow_2 23 rfl rfl
theorem dksX3_layRow_4 : cX3_layRow.data.toList.drop 92 = dktX3_layRow_4 := dk_seg dksX3_layRow_3 23 rfl rfl
theorem dX3_layRow_0 : decode cX3_layRow 0 = .ok (.aload_n 0, 1) := dk_42 (dk_at dksX3_layRow_0 0 rfl rfl)
theorem dX3_layRow_1 : decode cX3_layRow 1 = .ok (.iconst 0, 1) := dk_3 (dk_at dksX3_layRow_0 1 rfl rfl)
theorem dX3_layRow_2 : decode cX3_layRow 2 = .ok (.putfield 63, 3) := dk_181 0 63 (dk_at dksX3_layRow_0 2 rfl rfl)
theorem dX3_layRow_5 : decode cX3_layRow 5 = .ok (.iconst 0, 1) := dk_3 (dk_at dksX3_layRow_0 5 rfl rfl)
theorem dX3_layRow_6 : decode cX3_layRow 6 = .ok (.istore_n 1, 1) := dk_60 (dk_at dksX3_layRow_0 6 rfl rfl)
theorem dX3_layRow_7 : decode cX3_layRow 7 = .ok (.iload_n 1, 1) := dk_27 (dk_at dksX3_layRow_0 7 rfl rfl)
theorem dX3_layRow_8 : decode cX3_layRow 8 = .ok (.aload_n 0, 1) := dk_42 (dk_at dksX3_layRow_0 8 rfl rfl)
theorem dX3_layRow_9 : decode cX3_layRow 9 = .ok (.getfield 42, 3) := dk_180 0 42 (dk_at dksX3_layRow_0 9 rfl rfl)
theorem dX3_layRow_12 : decode cX3_layRow 12 = .ok (.if_icmp .ge 83, 3) := dk_162 0 83 (dk_at dksX3_layRow_0 12 rfl rfl)
theorem dX3_layRow_15 : decode cX3_layRow 15 = .ok (.aload_n 0, 1) := dk_42 (dk_at dksX3_layRow_0 15 rfl rfl)
theorem dX3_layRow_16 : decode cX3_layRow 16 = .ok (.getfield 23, 3) := dk_180 0 23 (dk_at dksX3_layRow_0 16 rfl rfl)
theorem dX3_layRow_19 : decode cX3_layRow 19 = .ok (.iload_n 1, 1) := dk_27 (dk_at dksX3_layRow_0 19 rfl rfl)
theorem dX3_layRow_20 : decode cX3_layRow 20 = .ok (.iaload, 1) := dk_46 (dk_at dksX3_layRow_0 20 rfl rfl)
theorem dX3_layRow_21 : decode cX3_layRow 21 = .ok (.ifCond .eq 6, 3) := dk_153 0 6 (dk_at dksX3_layRow_0 21 rfl rfl)
theorem dX3_layRow_24 : decode cX3_layRow 24 = .ok (.goto 65, 3) := dk_167 0 65 (dk_at dksX3_layRow_1 0 rfl rfl)
theorem dX3_layRow_27 : decode cX3_layRow 27 = .ok (.aload_n 0, 1) := dk_42 (dk_at dksX3_layRow_1 3 rfl rfl)
theorem dX3_layRow_28 : decode cX3_layRow 28 = .ok (.getfield 63, 3) := dk_180 0 63 (dk_at dksX3_layRow_1 4 rfl rfl)
theorem dX3_layRow_31 : decode cX3_layRow 31 = .ok (.istore_n 2, 1) := dk_61 (dk_at dksX3_layRow_1 7 rfl rfl)
theorem dX3_layRow_32 : decode cX3_layRow 32 = .ok (.iload_n 2, 1) := dk_28 (dk_at dksX3_layRow_1 8 rfl rfl)
theorem dX3_layRow_33 : decode cX3_layRow 33 = .ok (.ifCond .le 39, 3) := dk_158 0 39 (dk_at dksX3_layRow_1 9 rfl rfl)
theorem dX3_layRow_36 : decode cX3_layRow 36 = .ok (.aload_n 0, 1) := dk_42 (dk_at dksX3_layRow_1 12 rfl rfl)
theorem dX3_layRow_37 : decode cX3_layRow 37 = .ok (.iload_n 1, 1) := dk_27 (dk_at dksX3_layRow_1 13 rfl rfl)
theorem dX3_layRow_38 : decode cX3_layRow 38 = .ok (.aload_n 0, 1) := dk_42 (dk_at dksX3_layRow_1 14 rfl rfl)
theorem dX3_layRow_39 : decode cX3_layRow 39 = .ok (.getfield 60, 3) := dk_180 0 60 (dk_at dksX3_layRow_1 15 rfl rfl)
theorem dX3_layRow_42 : decode cX3_layRow 42 = .ok (.iload_n 2, 1) := dk_28 (dk_at dksX3_layRow_1 18 rfl rfl)
theorem dX3_layRow_43 : decode cX3_layRow 43 = .ok (.iconst 1, 1) := dk_4 (dk_at dksX3_layRow_1 19 rfl rfl)
theorem dX3_layRow_44 : decode cX3_layRow 44 = .ok (.isub, 1) := dk_100 (dk_at dksX3_layRow_1 20 rfl rfl)
theorem dX3_layRow_45 : decode cX3_layRow 45 = .ok (.iaload, 1) := dk_46 (dk_at dksX3_layRow_1 21 rfl rfl)
theorem dX3_layRow_46 : decode cX3_layRow 46 = .ok (.invokevirtual 171, 3) := dk_182 0 171 (dk_at dksX3_layRow_2 0 rfl rfl)
theorem dX3_layRow_49 : decode cX3_layRow 49 = .ok (.ifCond .eq 23, 3) := dk_153 0 23 (dk_at dksX3_layRow_2 3 rfl rfl)
theorem dX3_layRow_52 : decode cX3_layRow 52 = .ok (.aload_n 0, 1) := dk_42 (dk_at dksX3_layRow_2 6 rfl rfl)
theorem dX3_layRow_53 : decode cX3_layRow 53 = .ok (.getfield 60, 3) := dk_180 0 60 (dk_at dksX3_layRow_2 7 rfl rfl)
theorem dX3_layRow_56 : decode cX3_layRow 56 = .ok (.iload_n 2, 1) := dk_28 (dk_at dksX3_layRow_2 10 rfl rfl)
theorem dX3_layRow_57 : decode cX3_layRow 57 = .ok (.aload_n 0, 1) := dk_42 (dk_at dksX3_layRow_2 11 rfl rfl)
theorem dX3_layRow_58 : decode cX3_layRow 58 = .ok (.getfield 60, 3) := dk_180 0 60 (dk_at dksX3_layRow_2 12 rfl rfl)
theorem dX3_layRow_61 : decode cX3_layRow 61 = .ok (.iload_n 2, 1) := dk_28 (dk_at dksX3_layRow_2 15 rfl rfl)
theorem dX3_layRow_62 : decode cX3_layRow 62 = .ok (.iconst 1, 1) := dk_4 (dk_at dksX3_layRow_2 16 rfl rfl)
theorem dX3_layRow_63 : decode cX3_layRow 63 = .ok (.isub, 1) := dk_100 (dk_at dksX3_layRow_2 17 rfl rfl)
theorem dX3_layRow_64 : decode cX3_layRow 64 = .ok (.iaload, 1) := dk_46 (dk_at dksX3_layRow_2 18 rfl rfl)
theorem dX3_layRow_65 : decode cX3_layRow 65 = .ok (.iastore, 1) := dk_79 (dk_at dksX3_layRow_2 19 rfl rfl)
theorem dX3_layRow_66 : decode cX3_layRow 66 = .ok (.iinc 2 (-1), 3) := dk_132 2 255 (dk_at dksX3_layRow_2 20 rfl rfl)
theorem dX3_layRow_69 : decode cX3_layRow 69 = .ok (.goto (-37), 3) := dk_167 255 219 (dk_at dksX3_layRow_3 0 rfl rfl)
theorem dX3_layRow_72 : decode cX3_layRow 72 = .ok (.aload_n 0, 1) := dk_42 (dk_at dksX3_layRow_3 3 rfl rfl)
theorem dX3_layRow_73 : decode cX3_layRow 73 = .ok (.getfield 60, 3) := dk_180 0 60 (dk_at dksX3_layRow_3 4 rfl rfl)
theorem dX3_layRow_76 : decode cX3_layRow 76 = .ok (.iload_n 2, 1) := dk_28 (dk_at dksX3_layRow_3 7 rfl rfl)
theorem dX3_layRow_77 : decode cX3_layRow 77 = .ok (.iload_n 1, 1) := dk_27 (dk_at dksX3_layRow_3 8 rfl rfl)
theorem dX3_layRow_78 : decode cX3_layRow 78 = .ok (.iastore, 1) := dk_79 (dk_at dksX3_layRow_3 9 rfl rfl)
theorem dX3_layRow_79 : decode cX3_layRow 79 = .ok (.aload_n 0, 1) := dk_42 (dk_at dksX3_layRow_3 10 rfl rfl)
theorem dX3_layRow_80 : decode cX3_layRow 80 = .ok (.dup, 1) := dk_89 (dk_at dksX3_layRow_3 11 rfl rfl)
theorem dX3_layRow_81 : decode cX3_layRow 81 = .ok (.getfield 63, 3) := dk_180 0 63 (dk_at dksX3_layRow_3 12 rfl rfl)
theorem dX3_layRow_84 : decode cX3_layRow 84 = .ok (.iconst 1, 1) := dk_4 (dk_at dksX3_layRow_3 15 rfl rfl)
theorem dX3_layRow_85 : decode cX3_layRow 85 = .ok (.iadd, 1) := dk_96 (dk_at dksX3_layRow_3 16 rfl rfl)
theorem dX3_layRow_86 : decode cX3_layRow 86 = .ok (.putfield 63, 3) := dk_181 0 63 (dk_at dksX3_layRow_3 17 rfl rfl)
theorem dX3_layRow_89 : decode cX3_layRow 89 = .ok (.iinc 1 1, 3) := dk_132 1 1 (dk_at dksX3_layRow_3 20 rfl rfl)
theorem dX3_layRow_92 : decode cX3_layRow 92 = .ok (.goto (-85), 3) := dk_167 255 171 (dk_at dksX3_layRow_4 0 rfl rfl)
theorem dX3_layRow_95 : decode cX3_layRow 95 = .ok (.return_, 1) := dk_177 (dk_at dksX3_layRow_4 3 rfl rfl)
abbrev cX3_isLess : ByteArray := prog_10_method_9_code
def yX3_isLess : MethodName := ⟨RX3, "isLess", "(II)Z"⟩
def dkwX3_isLess_3 : List UInt8 := [3, 172, 27, 28, 162, 0, 7, 4, 167, 0, 4, 3, 172]
abbrev dktX3_isLess_3 : List UInt8 := dkwX3_isLess_3 ++ []
def dkwX3_isLess_2 : List UInt8 := [28, 46, 159, 0, 24, 42, 180, 0, 17, 27, 46, 42, 180, 0, 17, 28, 46, 162, 0, 7, 4, 167, 0, 4]
abbrev dktX3_isLess_2 : List UInt8 := dkwX3_isLess_2 ++ dktX3_isLess_3
def dkwX3_isLess_1 : List UInt8 := [180, 0, 13, 28, 46, 162, 0, 7, 4, 167, 0, 4, 3, 172, 42, 180, 0, 17, 27, 46, 42, 180, 0, 17]
abbrev dktX3_isLess_1 : List UInt8 := dkwX3_isLess_1 ++ dktX3_isLess_2
def dkwX3_isLess_0 : List UInt8 := [42, 180, 0, 13, 27, 46, 42, 180, 0, 13, 28, 46, 159, 0, 24, 42, 180, 0, 13, 27, 46, 42]
abbrev dktX3_isLess_0 : List UInt8 := dkwX3_isLess_0 ++ dktX3_isLess_1
theorem dksX3_isLess_0 : cX3_isLess.data.toList.drop 0 = dktX3_isLess_0 := by decide +kernel
theorem dksX3_isLess_1 : cX3_isLess.data.toList.drop 22 = dktX3_isLess_1 := dk_seg dksX3_isLess_0 22 rfl rfl
theorem dksX3_isLess_2 : cX3_isLess.data.toList.drop 46 = dktX3_isLess_2 := dk_seg dksX3_isLess_1 24 rfl rfl
theorem dksX3_isLess_3 : cX3_isLess.data.toList.drop 70 = dktX3_isLess_3 := dk_seg dksX3_isLess_2 24 rfl rfl
theorem dX3_isLess_0 : decode cX3_isLess 0 = .ok (.aload_n 0, 1) := dk_42 (dk_at dksX3_isLess_0 0 rfl rfl)
theorem dX3_isLess_1 : decode cX3_isLess 1 = .ok (.getfield 13, 3) := dk_180 0 13 (dk_at dksX3_isLess_0 1 rfl rfl)
theorem dX3_isLess_4 : decode cX3_isLess 4 = .ok (.iload_n 1, 1) := dk_27 (dk_at dksX3_isLess_0 4 rfl rfl)
theorem dX3_isLess_5 : decode cX3_isLess 5 = .ok (.iaload, 1) := dk_46 (dk_at dksX3_isLess_0 5 rfl rfl)
theorem dX3_isLess_6 : decode cX3_isLess 6 = .ok (.aload_n 0, 1) := dk_42 (dk_at dksX3_isLess_0 6 rfl rfl)
theorem dX3_isLess_7 : decode cX3_isLess 7 = .ok (.getfield 13, 3) := dk_180 0 13 (dk_at dksX3_isLess_0 7 rfl rfl)
theorem dX3_isLess_10 : decode cX3_isLess 10 = .ok (.iload_n 2, 1) := dk_28 (dk_at dksX3_isLess_0 10 rfl rfl)
theorem dX3_isLess_11 : decode cX3_isLess 11 = .ok (.iaload, 1) := dk_46 (dk_at dksX3_isLess_0 11 rfl rfl)
theorem dX3_isLess_12 : decode cX3_isLess 12 = .ok (.if_icmp .eq 24, 3) := dk_159 0 24 (dk_at dksX3_isLess_0 12 rfl rfl)
theorem dX3_isLess_15 : decode cX3_isLess 15 = .ok (.aload_n 0, 1) := dk_42 (dk_at dksX3_isLess_0 15 rfl rfl)
theorem dX3_isLess_16 : decode cX3_isLess 16 = .ok (.getfield 13, 3) := dk_180 0 13 (dk_at dksX3_isLess_0 16 rfl rfl)
theorem dX3_isLess_19 : decode cX3_isLess 19 = .ok (.iload_n 1, 1) := dk_27 (dk_at dksX3_isLess_0 19 rfl rfl)
theorem dX3_isLess_20 : decode cX3_isLess 20 = .ok (.iaload, 1) := dk_46 (dk_at dksX3_isLess_0 20 rfl rfl)
theorem dX3_isLess_21 : decode cX3_isLess 21 = .ok (.aload_n 0, 1) := dk_42 (dk_at dksX3_isLess_0 21 rfl rfl)
theorem dX3_isLess_22 : decode cX3_isLess 22 = .ok (.getfield 13, 3) := dk_180 0 13 (dk_at dksX3_isLess_1 0 rfl rfl)
theorem dX3_isLess_25 : decode cX3_isLess 25 = .ok (.iload_n 2, 1) := dk_28 (dk_at dksX3_isLess_1 3 rfl rfl)
theorem dX3_isLess_26 : decode cX3_isLess 26 = .ok (.iaload, 1) := dk_46 (dk_at dksX3_isLess_1 4 rfl rfl)
theorem dX3_isLess_27 : decode cX3_isLess 27 = .ok (.if_icmp .ge 7, 3) := dk_162 0 7 (dk_at dksX3_isLess_1 5 rfl rfl)
theorem dX3_isLess_30 : decode cX3_isLess 30 = .ok (.iconst 1, 1) := dk_4 (dk_at dksX3_isLess_1 8 rfl rfl)
theorem dX3_isLess_31 : decode cX3_isLess 31 = .ok (.goto 4, 3) := dk_167 0 4 (dk_at dksX3_isLess_1 9 rfl rfl)
theorem dX3_isLess_34 : decode cX3_isLess 34 = .ok (.iconst 0, 1) := dk_3 (dk_at dksX3_isLess_1 12 rfl rfl)
theorem dX3_isLess_35 : decode cX3_isLess 35 = .ok (.ireturn, 1) := dk_172 (dk_at dksX3_isLess_1 13 rfl rfl)
theorem dX3_isLess_36 : decode cX3_isLess 36 = .ok (.aload_n 0, 1) := dk_42 (dk_at dksX3_isLess_1 14 rfl rfl)
theorem dX3_isLess_37 : decode cX3_isLess 37 = .ok (.getfield 17, 3) := dk_180 0 17 (dk_at dksX3_isLess_1 15 rfl rfl)
theorem dX3_isLess_40 : decode cX3_isLess 40 = .ok (.iload_n 1, 1) := dk_27 (dk_at dksX3_isLess_1 18 rfl rfl)
theorem dX3_isLess_41 : decode cX3_isLess 41 = .ok (.iaload, 1) := dk_46 (dk_at dksX3_isLess_1 19 rfl rfl)
theorem dX3_isLess_42 : decode cX3_isLess 42 = .ok (.aload_n 0, 1) := dk_42 (dk_at dksX3_isLess_1 20 rfl rfl)
theorem dX3_isLess_43 : decode cX3_isLess 43 = .ok (.getfield 17, 3) := dk_180 0 17 (dk_at dksX3_isLess_1 21 rfl rfl)
theorem dX3_isLess_46 : decode cX3_isLess 46 = .ok (.iload_n 2, 1) := dk_28 (dk_at dksX3_isLess_2 0 rfl rfl)
theorem dX3_isLess_47 : decode cX3_isLess 47 = .ok (.iaload, 1) := dk_46 (dk_at dksX3_isLess_2 1 rfl rfl)
theorem dX3_isLess_48 : decode cX3_isLess 48 = .ok (.if_icmp .eq 24, 3) := dk_159 0 24 (dk_at dksX3_isLess_2 2 rfl rfl)
theorem dX3_isLess_51 : decode cX3_isLess 51 = .ok (.aload_n 0, 1) := dk_42 (dk_at dksX3_isLess_2 5 rfl rfl)
theorem dX3_isLess_52 : decode cX3_isLess 52 = .ok (.getfield 17, 3) := dk_180 0 17 (dk_at dksX3_isLess_2 6 rfl rfl)
theorem dX3_isLess_55 : decode cX3_isLess 55 = .ok (.iload_n 1, 1) := dk_27 (dk_at dksX3_isLess_2 9 rfl rfl)
theorem dX3_isLess_56 : decode cX3_isLess 56 = .ok (.iaload, 1) := dk_46 (dk_at dksX3_isLess_2 10 rfl rfl)
theorem dX3_isLess_57 : decode cX3_isLess 57 = .ok (.aload_n 0, 1) := dk_42 (dk_at dksX3_isLess_2 11 rfl rfl)
theorem dX3_isLess_58 : decode cX3_isLess 58 = .ok (.getfield 17, 3) := dk_180 0 17 (dk_at dksX3_isLess_2 12 rfl rfl)
theorem dX3_isLess_61 : decode cX3_isLess 61 = .ok (.iload_n 2, 1) := dk_28 (dk_at dksX3_isLess_2 15 rfl rfl)
theorem dX3_isLess_62 : decode cX3_isLess 62 = .ok (.iaload, 1) := dk_46 (dk_at dksX3_isLess_2 16 rfl rfl)
theorem dX3_isLess_63 : decode cX3_isLess 63 = .ok (.if_icmp .ge 7, 3) := dk_162 0 7 (dk_at dksX3_isLess_2 17 rfl rfl)
theorem dX3_isLess_66 : decode cX3_isLess 66 = .ok (.iconst 1, 1) := dk_4 (dk_at dksX3_isLess_2 20 rfl rfl)
theorem dX3_isLess_67 : decode cX3_isLess 67 = .ok (.goto 4, 3) := dk_167 0 4 (dk_at dksX3_isLess_2 21 rfl rfl)
theorem dX3_isLess_70 : decode cX3_isLess 70 = .ok (.iconst 0, 1) := dk_3 (dk_at dksX3_isLess_3 0 rfl rfl)
theorem dX3_isLess_71 : decode cX3_isLess 71 = .ok (.ireturn, 1) := dk_172 (dk_at dksX3_isLess_3 1 rfl rfl)
theorem dX3_isLess_72 : decode cX3_isLess 72 = .ok (.iload_n 1, 1) := dk_27 (dk_at dksX3_isLess_3 2 rfl rfl)
theorem dX3_isLess_73 : decode cX3_isLess 73 = .ok (.iload_n 2, 1) := dk_28 (dk_at dksX3_isLess_3 3 rfl rfl)
theorem dX3_isLess_74 : decode cX3_isLess 74 = .ok (.if_icmp .ge 7, 3) := dk_162 0 7 (dk_at dksX3_isLess_3 4 rfl rfl)
theorem dX3_isLess_77 : decode cX3_isLess 77 = .ok (.iconst 1, 1) := dk_4 (dk_at dksX3_isLess_3 7 rfl rfl)
theorem dX3_isLess_78 : decode cX3_isLess 78 = .ok (.goto 4, 3) := dk_167 0 4 (dk_at dksX3_isLess_3 8 rfl rfl)
theorem dX3_isLess_81 : decode cX3_isLess 81 = .ok (.iconst 0, 1) := dk_3 (dk_at dksX3_isLess_3 11 rfl rfl)
theorem dX3_isLess_82 : decode cX3_isLess 82 = .ok (.ireturn, 1) := dk_172 (dk_at dksX3_isLess_3 12 rfl rfl)
abbrev cX3_built : ByteArray := prog_10_method_15_code
def yX3_built : MethodName := ⟨RX3, "built", "(IIII)I"⟩
def dkwX3_built_4 : List UInt8 := [4, 96, 182, 0, 183, 79, 21, 6, 172]
abbrev dktX3_built_4 : List UInt8 := dkwX3_built_4 ++ []
def dkwX3_built_3 : List UInt8 := [21, 4, 4, 96, 182, 0, 183, 79, 42, 180, 0, 29, 21, 6, 42, 21, 5, 4, 96, 28, 21, 6, 21, 4]
abbrev dktX3_built_3 : List UInt8 := dkwX3_built_3 ++ dktX3_built_4
def dkwX3_built_2 : List UInt8 := [42, 180, 0, 66, 21, 4, 92, 46, 4, 96, 79, 42, 180, 0, 26, 21, 6, 42, 27, 21, 5, 21, 6]
abbrev dktX3_built_2 : List UInt8 := dkwX3_built_2 ++ dktX3_built_3
def dkwX3_built_1 : List UInt8 := [180, 0, 32, 21, 6, 29, 79, 42, 180, 0, 35, 21, 6, 3, 84, 42, 180, 0, 69, 21, 6, 21, 4, 79]
abbrev dktX3_built_1 : List UInt8 := dkwX3_built_1 ++ dktX3_built_2
def dkwX3_built_0 : List UInt8 := [27, 28, 160, 0, 5, 2, 172, 27, 28, 96, 5, 108, 54, 5, 42, 180, 0, 60, 21, 5, 46, 54, 6, 42]
abbrev dktX3_built_0 : List UInt8 := dkwX3_built_0 ++ dktX3_built_1
theorem dksX3_built_0 : cX3_built.data.toList.drop 0 = dktX3_built_0 := by decide +kernel
theorem dksX3_built_1 : cX3_built.data.toList.drop 24 = dktX3_built_1 := dk_seg dksX3_built_0 24 rfl rfl
theorem dksX3_built_2 : cX3_built.data.toList.drop 48 = dktX3_built_2 := dk_seg dksX3_built_1 24 rfl rfl
theorem dksX3_built_3 : cX3_built.data.toList.drop 71 = dktX3_built_3 := dk_seg dksX3_built_2 23 rfl rfl
theorem dksX3_built_4 : cX3_built.data.toList.drop 95 = dktX3_built_4 := dk_seg dksX3_built_3 24 rfl rfl
theorem dX3_built_0 : decode cX3_built 0 = .ok (.iload_n 1, 1) := dk_27 (dk_at dksX3_built_0 0 rfl rfl)
theorem dX3_built_1 : decode cX3_built 1 = .ok (.iload_n 2, 1) := dk_28 (dk_at dksX3_built_0 1 rfl rfl)
theorem dX3_built_2 : decode cX3_built 2 = .ok (.if_icmp .ne 5, 3) := dk_160 0 5 (dk_at dksX3_built_0 2 rfl rfl)
theorem dX3_built_5 : decode cX3_built 5 = .ok (.iconst (-1), 1) := dk_2 (dk_at dksX3_built_0 5 rfl rfl)
theorem dX3_built_6 : decode cX3_built 6 = .ok (.ireturn, 1) := dk_172 (dk_at dksX3_built_0 6 rfl rfl)
theorem dX3_built_7 : decode cX3_built 7 = .ok (.iload_n 1, 1) := dk_27 (dk_at dksX3_built_0 7 rfl rfl)
theorem dX3_built_8 : decode cX3_built 8 = .ok (.iload_n 2, 1) := dk_28 (dk_at dksX3_built_0 8 rfl rfl)
theorem dX3_built_9 : decode cX3_built 9 = .ok (.iadd, 1) := dk_96 (dk_at dksX3_built_0 9 rfl rfl)
theorem dX3_built_10 : decode cX3_built 10 = .ok (.iconst 2, 1) := dk_5 (dk_at dksX3_built_0 10 rfl rfl)
theorem dX3_built_11 : decode cX3_built 11 = .ok (.idiv, 1) := dk_108 (dk_at dksX3_built_0 11 rfl rfl)
theorem dX3_built_12 : decode cX3_built 12 = .ok (.istore 5, 2) := dk_54 5 (dk_at dksX3_built_0 12 rfl rfl)
theorem dX3_built_14 : decode cX3_built 14 = .ok (.aload_n 0, 1) := dk_42 (dk_at dksX3_built_0 14 rfl rfl)
theorem dX3_built_15 : decode cX3_built 15 = .ok (.getfield 60, 3) := dk_180 0 60 (dk_at dksX3_built_0 15 rfl rfl)
theorem dX3_built_18 : decode cX3_built 18 = .ok (.iload 5, 2) := dk_21 5 (dk_at dksX3_built_0 18 rfl rfl)
theorem dX3_built_20 : decode cX3_built 20 = .ok (.iaload, 1) := dk_46 (dk_at dksX3_built_0 20 rfl rfl)
theorem dX3_built_21 : decode cX3_built 21 = .ok (.istore 6, 2) := dk_54 6 (dk_at dksX3_built_0 21 rfl rfl)
theorem dX3_built_23 : decode cX3_built 23 = .ok (.aload_n 0, 1) := dk_42 (dk_at dksX3_built_0 23 rfl rfl)
theorem dX3_built_24 : decode cX3_built 24 = .ok (.getfield 32, 3) := dk_180 0 32 (dk_at dksX3_built_1 0 rfl rfl)
theorem dX3_built_27 : decode cX3_built 27 = .ok (.iload 6, 2) := dk_21 6 (dk_at dksX3_built_1 3 rfl rfl)
theorem dX3_built_29 : decode cX3_built 29 = .ok (.iload_n 3, 1) := dk_29 (dk_at dksX3_built_1 5 rfl rfl)
theorem dX3_built_30 : decode cX3_built 30 = .ok (.iastore, 1) := dk_79 (dk_at dksX3_built_1 6 rfl rfl)
theorem dX3_built_31 : decode cX3_built 31 = .ok (.aload_n 0, 1) := dk_42 (dk_at dksX3_built_1 7 rfl rfl)
theorem dX3_built_32 : decode cX3_built 32 = .ok (.getfield 35, 3) := dk_180 0 35 (dk_at dksX3_built_1 8 rfl rfl)
theorem dX3_built_35 : decode cX3_built 35 = .ok (.iload 6, 2) := dk_21 6 (dk_at dksX3_built_1 11 rfl rfl)
theorem dX3_built_37 : decode cX3_built 37 = .ok (.iconst 0, 1) := dk_3 (dk_at dksX3_built_1 13 rfl rfl)
theorem dX3_built_38 : decode cX3_built 38 = .ok (.bastore, 1) := dk_84 (dk_at dksX3_built_1 14 rfl rfl)
theorem dX3_built_39 : decode cX3_built 39 = .ok (.aload_n 0, 1) := dk_42 (dk_at dksX3_built_1 15 rfl rfl)
theorem dX3_built_40 : decode cX3_built 40 = .ok (.getfield 69, 3) := dk_180 0 69 (dk_at dksX3_built_1 16 rfl rfl)
theorem dX3_built_43 : decode cX3_built 43 = .ok (.iload 6, 2) := dk_21 6 (dk_at dksX3_built_1 19 rfl rfl)
theorem dX3_built_45 : decode cX3_built 45 = .ok (.iload 4, 2) := dk_21 4 (dk_at dksX3_built_1 21 rfl rfl)
theorem dX3_built_47 : decode cX3_built 47 = .ok (.iastore, 1) := dk_79 (dk_at dksX3_built_1 23 rfl rfl)
theorem dX3_built_48 : decode cX3_built 48 = .ok (.aload_n 0, 1) := dk_42 (dk_at dksX3_built_2 0 rfl rfl)
theorem dX3_built_49 : decode cX3_built 49 = .ok (.getfield 66, 3) := dk_180 0 66 (dk_at dksX3_built_2 1 rfl rfl)
theorem dX3_built_52 : decode cX3_built 52 = .ok (.iload 4, 2) := dk_21 4 (dk_at dksX3_built_2 4 rfl rfl)
theorem dX3_built_54 : decode cX3_built 54 = .ok (.dup2, 1) := dk_92 (dk_at dksX3_built_2 6 rfl rfl)
theorem dX3_built_55 : decode cX3_built 55 = .ok (.iaload, 1) := dk_46 (dk_at dksX3_built_2 7 rfl rfl)
theorem dX3_built_56 : decode cX3_built 56 = .ok (.iconst 1, 1) := dk_4 (dk_at dksX3_built_2 8 rfl rfl)
theorem dX3_built_57 : decode cX3_built 57 = .ok (.iadd, 1) := dk_96 (dk_at dksX3_built_2 9 rfl rfl)
theorem dX3_built_58 : decode cX3_built 58 = .ok (.iastore, 1) := dk_79 (dk_at dksX3_built_2 10 rfl rfl)
theorem dX3_built_59 : decode cX3_built 59 = .ok (.aload_n 0, 1) := dk_42 (dk_at dksX3_built_2 11 rfl rfl)
theorem dX3_built_60 : decode cX3_built 60 = .ok (.getfield 26, 3) := dk_180 0 26 (dk_at dksX3_built_2 12 rfl rfl)
theorem dX3_built_63 : decode cX3_built 63 = .ok (.iload 6, 2) := dk_21 6 (dk_at dksX3_built_2 15 rfl rfl)
theorem dX3_built_65 : decode cX3_built 65 = .ok (.aload_n 0, 1) := dk_42 (dk_at dksX3_built_2 17 rfl rfl)
theorem dX3_built_66 : decode cX3_built 66 = .ok (.iload_n 1, 1) := dk_27 (dk_at dksX3_built_2 18 rfl rfl)
theorem dX3_built_67 : decode cX3_built 67 = .ok (.iload 5, 2) := dk_21 5 (dk_at dksX3_built_2 19 rfl rfl)
theorem dX3_built_69 : decode cX3_built 69 = .ok (.iload 6, 2) := dk_21 6 (dk_at dksX3_built_2 21 rfl rfl)
theorem dX3_built_71 : decode cX3_built 71 = .ok (.iload 4, 2) := dk_21 4 (dk_at dksX3_built_3 0 rfl rfl)
theorem dX3_built_73 : decode cX3_built 73 = .ok (.iconst 1, 1) := dk_4 (dk_at dksX3_built_3 2 rfl rfl)
theorem dX3_built_74 : decode cX3_built 74 = .ok (.iadd, 1) := dk_96 (dk_at dksX3_built_3 3 rfl rfl)
theorem dX3_built_75 : decode cX3_built 75 = .ok (.invokevirtual 183, 3) := dk_182 0 183 (dk_at dksX3_built_3 4 rfl rfl)
theorem dX3_built_78 : decode cX3_built 78 = .ok (.iastore, 1) := dk_79 (dk_at dksX3_built_3 7 rfl rfl)
theorem dX3_built_79 : decode cX3_built 79 = .ok (.aload_n 0, 1) := dk_42 (dk_at dksX3_built_3 8 rfl rfl)
theorem dX3_built_80 : decode cX3_built 80 = .ok (.getfield 29, 3) := dk_180 0 29 (dk_at dksX3_built_3 9 rfl rfl)
theorem dX3_built_83 : decode cX3_built 83 = .ok (.iload 6, 2) := dk_21 6 (dk_at dksX3_built_3 12 rfl rfl)
theorem dX3_built_85 : decode cX3_built 85 = .ok (.aload_n 0, 1) := dk_42 (dk_at dksX3_built_3 14 rfl rfl)
theorem dX3_built_86 : decode cX3_built 86 = .ok (.iload 5, 2) := dk_21 5 (dk_at dksX3_built_3 15 rfl rfl)
theorem dX3_built_88 : decode cX3_built 88 = .ok (.iconst 1, 1) := dk_4 (dk_at dksX3_built_3 17 rfl rfl)
theorem dX3_built_89 : decode cX3_built 89 = .ok (.iadd, 1) := dk_96 (dk_at dksX3_built_3 18 rfl rfl)
theorem dX3_built_90 : decode cX3_built 90 = .ok (.iload_n 2, 1) := dk_28 (dk_at dksX3_built_3 19 rfl rfl)
theorem dX3_built_91 : decode cX3_built 91 = .ok (.iload 6, 2) := dk_21 6 (dk_at dksX3_built_3 20 rfl rfl)
theorem dX3_built_93 : decode cX3_built 93 = .ok (.iload 4, 2) := dk_21 4 (dk_at dksX3_built_3 22 rfl rfl)
theorem dX3_built_95 : decode cX3_built 95 = .ok (.iconst 1, 1) := dk_4 (dk_at dksX3_built_4 0 rfl rfl)
theorem dX3_built_96 : decode cX3_built 96 = .ok (.iadd, 1) := dk_96 (dk_at dksX3_built_4 1 rfl rfl)
theorem dX3_built_97 : decode cX3_built 97 = .ok (.invokevirtual 183, 3) := dk_182 0 183 (dk_at dksX3_built_4 2 rfl rfl)
theorem dX3_built_100 : decode cX3_built 100 = .ok (.iastore, 1) := dk_79 (dk_at dksX3_built_4 5 rfl rfl)
theorem dX3_built_101 : decode cX3_built 101 = .ok (.iload 6, 2) := dk_21 6 (dk_at dksX3_built_4 6 rfl rfl)
theorem dX3_built_103 : decode cX3_built 103 = .ok (.ireturn, 1) := dk_172 (dk_at dksX3_built_4 8 rfl rfl)
abbrev cX3_hangsNew : ByteArray := prog_10_method_13_code
def yX3_hangsNew : MethodName := ⟨RX3, "hangsNew", "(I)V"⟩
def dkwX3_hangsNew_4 : List UInt8 := [29, 27, 79, 167, 0, 10, 42, 180, 0, 29, 29, 27, 79, 177]
abbrev dktX3_hangsNew_4 : List UInt8 := dkwX3_hangsNew_4 ++ []
def dkwX3_hangsNew_3 : List UInt8 := [160, 0, 11, 42, 27, 181, 0, 39, 167, 0, 29, 42, 27, 29, 182, 0, 171, 153, 0, 13, 42, 180, 0, 26]
abbrev dktX3_hangsNew_3 : List UInt8 := dkwX3_hangsNew_3 ++ dktX3_hangsNew_4
def dkwX3_hangsNew_2 : List UInt8 := [79, 42, 180, 0, 29, 27, 2, 79, 42, 180, 0, 32, 27, 29, 79, 42, 180, 0, 35, 27, 4, 84, 29, 2]
abbrev dktX3_hangsNew_2 : List UInt8 := dkwX3_hangsNew_2 ++ dktX3_hangsNew_3
def dkwX3_hangsNew_1 : List UInt8 := [180, 0, 26, 28, 46, 167, 0, 9, 42, 180, 0, 29, 28, 46, 61, 167, 255, 224, 42, 180, 0, 26, 27, 2]
abbrev dktX3_hangsNew_1 : List UInt8 := dkwX3_hangsNew_1 ++ dktX3_hangsNew_2
def dkwX3_hangsNew_0 : List UInt8 := [42, 180, 0, 39, 61, 2, 62, 28, 2, 159, 0, 33, 28, 62, 42, 27, 28, 182, 0, 171, 153, 0, 12, 42]
abbrev dktX3_hangsNew_0 : List UInt8 := dkwX3_hangsNew_0 ++ dktX3_hangsNew_1
theorem dksX3_hangsNew_0 : cX3_hangsNew.data.toList.drop 0 = dktX3_hangsNew_0 := by decide +kernel
theorem dksX3_hangsNew_1 : cX3_hangsNew.data.toList.drop 24 = dktX3_hangsNew_1 := dk_seg dksX3_hangsNew_0 24 rfl rfl
theorem dksX3_hangsNew_2 : cX3_hangsNew.data.toList.drop 48 = dktX3_hangsNew_2 := dk_seg dksX3_hangsNew_1 24 rfl rfl
theorem dksX3_hangsNew_3 : cX3_hangsNew.data.toList.drop 72 = dktX3_hangsNew_3 := dk_seg dksX3_hangsNew_2 24 rfl rfl
theorem dksX3_hangsNew_4 : cX3_hangsNew.data.toList.drop 96 = dktX3_hangsNew_4 := dk_seg dksX3_hangsNew_3 24 rfl rfl
theorem dX3_hangsNew_0 : decode cX3_hangsNew 0 = .ok (.aload_n 0, 1) := dk_42 (dk_at dksX3_hangsNew_0 0 rfl rfl)
theorem dX3_hangsNew_1 : decode cX3_hangsNew 1 = .ok (.getfield 39, 3) := dk_180 0 39 (dk_at dksX3_hangsNew_0 1 rfl rfl)
theorem dX3_hangsNew_4 : decode cX3_hangsNew 4 = .ok (.istore_n 2, 1) := dk_61 (dk_at dksX3_hangsNew_0 4 rfl rfl)
theorem dX3_hangsNew_5 : decode cX3_hangsNew 5 = .ok (.iconst (-1), 1) := dk_2 (dk_at dksX3_hangsNew_0 5 rfl rfl)
theorem dX3_hangsNew_6 : decode cX3_hangsNew 6 = .ok (.istore_n 3, 1) := dk_62 (dk_at dksX3_hangsNew_0 6 rfl rfl)
theorem dX3_hangsNew_7 : decode cX3_hangsNew 7 = .ok (.iload_n 2, 1) := dk_28 (dk_at dksX3_hangsNew_0 7 rfl rfl)
theorem dX3_hangsNew_8 : decode cX3_hangsNew 8 = .ok (.iconst (-1), 1) := dk_2 (dk_at dksX3_hangsNew_0 8 rfl rfl)
theorem dX3_hangsNew_9 : decode cX3_hangsNew 9 = .ok (.if_icmp .eq 33, 3) := dk_159 0 33 (dk_at dksX3_hangsNew_0 9 rfl rfl)
theorem dX3_hangsNew_12 : decode cX3_hangsNew 12 = .ok (.iload_n 2, 1) := dk_28 (dk_at dksX3_hangsNew_0 12 rfl rfl)
theorem dX3_hangsNew_13 : decode cX3_hangsNew 13 = .ok (.istore_n 3, 1) := dk_62 (dk_at dksX3_hangsNew_0 13 rfl rfl)
theorem dX3_hangsNew_14 : decode cX3_hangsNew 14 = .ok (.aload_n 0, 1) := dk_42 (dk_at dksX3_hangsNew_0 14 rfl rfl)
theorem dX3_hangsNew_15 : decode cX3_hangsNew 15 = .ok (.iload_n 1, 1) := dk_27 (dk_at dksX3_hangsNew_0 15 rfl rfl)
theorem dX3_hangsNew_16 : decode cX3_hangsNew 16 = .ok (.iload_n 2, 1) := dk_28 (dk_at dksX3_hangsNew_0 16 rfl rfl)
theorem dX3_hangsNew_17 : decode cX3_hangsNew 17 = .ok (.invokevirtual 171, 3) := dk_182 0 171 (dk_at dksX3_hangsNew_0 17 rfl rfl)
theorem dX3_hangsNew_20 : decode cX3_hangsNew 20 = .ok (.ifCond .eq 12, 3) := dk_153 0 12 (dk_at dksX3_hangsNew_0 20 rfl rfl)
theorem dX3_hangsNew_23 : decode cX3_hangsNew 23 = .ok (.aload_n 0, 1) := dk_42 (dk_at dksX3_hangsNew_0 23 rfl rfl)
theorem dX3_hangsNew_24 : decode cX3_hangsNew 24 = .ok (.getfield 26, 3) := dk_180 0 26 (dk_at dksX3_hangsNew_1 0 rfl rfl)
theorem dX3_hangsNew_27 : decode cX3_hangsNew 27 = .ok (.iload_n 2, 1) := dk_28 (dk_at dksX3_hangsNew_1 3 rfl rfl)
theorem dX3_hangsNew_28 : decode cX3_hangsNew 28 = .ok (.iaload, 1) := dk_46 (dk_at dksX3_hangsNew_1 4 rfl rfl)
theorem dX3_hangsNew_29 : decode cX3_hangsNew 29 = .ok (.goto 9, 3) := dk_167 0 9 (dk_at dksX3_hangsNew_1 5 rfl rfl)
theorem dX3_hangsNew_32 : decode cX3_hangsNew 32 = .ok (.aload_n 0, 1) := dk_42 (dk_at dksX3_hangsNew_1 8 rfl rfl)
theorem dX3_hangsNew_33 : decode cX3_hangsNew 33 = .ok (.getfield 29, 3) := dk_180 0 29 (dk_at dksX3_hangsNew_1 9 rfl rfl)
theorem dX3_hangsNew_36 : decode cX3_hangsNew 36 = .ok (.iload_n 2, 1) := dk_28 (dk_at dksX3_hangsNew_1 12 rfl rfl)
theorem dX3_hangsNew_37 : decode cX3_hangsNew 37 = .ok (.iaload, 1) := dk_46 (dk_at dksX3_hangsNew_1 13 rfl rfl)
theorem dX3_hangsNew_38 : decode cX3_hangsNew 38 = .ok (.istore_n 2, 1) := dk_61 (dk_at dksX3_hangsNew_1 14 rfl rfl)
theorem dX3_hangsNew_39 : decode cX3_hangsNew 39 = .ok (.goto (-32), 3) := dk_167 255 224 (dk_at dksX3_hangsNew_1 15 rfl rfl)
theorem dX3_hangsNew_42 : decode cX3_hangsNew 42 = .ok (.aload_n 0, 1) := dk_42 (dk_at dksX3_hangsNew_1 18 rfl rfl)
theorem dX3_hangsNew_43 : decode cX3_hangsNew 43 = .ok (.getfield 26, 3) := dk_180 0 26 (dk_at dksX3_hangsNew_1 19 rfl rfl)
theorem dX3_hangsNew_46 : decode cX3_hangsNew 46 = .ok (.iload_n 1, 1) := dk_27 (dk_at dksX3_hangsNew_1 22 rfl rfl)
theorem dX3_hangsNew_47 : decode cX3_hangsNew 47 = .ok (.iconst (-1), 1) := dk_2 (dk_at dksX3_hangsNew_1 23 rfl rfl)
theorem dX3_hangsNew_48 : decode cX3_hangsNew 48 = .ok (.iastore, 1) := dk_79 (dk_at dksX3_hangsNew_2 0 rfl rfl)
theorem dX3_hangsNew_49 : decode cX3_hangsNew 49 = .ok (.aload_n 0, 1) := dk_42 (dk_at dksX3_hangsNew_2 1 rfl rfl)
theorem dX3_hangsNew_50 : decode cX3_hangsNew 50 = .ok (.getfield 29, 3) := dk_180 0 29 (dk_at dksX3_hangsNew_2 2 rfl rfl)
theorem dX3_hangsNew_53 : decode cX3_hangsNew 53 = .ok (.iload_n 1, 1) := dk_27 (dk_at dksX3_hangsNew_2 5 rfl rfl)
theorem dX3_hangsNew_54 : decode cX3_hangsNew 54 = .ok (.iconst (-1), 1) := dk_2 (dk_at dksX3_hangsNew_2 6 rfl rfl)
theorem dX3_hangsNew_55 : decode cX3_hangsNew 55 = .ok (.iastore, 1) := dk_79 (dk_at dksX3_hangsNew_2 7 rfl rfl)
theorem dX3_hangsNew_56 : decode cX3_hangsNew 56 = .ok (.aload_n 0, 1) := dk_42 (dk_at dksX3_hangsNew_2 8 rfl rfl)
theorem dX3_hangsNew_57 : decode cX3_hangsNew 57 = .ok (.getfield 32, 3) := dk_180 0 32 (dk_at dksX3_hangsNew_2 9 rfl rfl)
theorem dX3_hangsNew_60 : decode cX3_hangsNew 60 = .ok (.iload_n 1, 1) := dk_27 (dk_at dksX3_hangsNew_2 12 rfl rfl)
theorem dX3_hangsNew_61 : decode cX3_hangsNew 61 = .ok (.iload_n 3, 1) := dk_29 (dk_at dksX3_hangsNew_2 13 rfl rfl)
theorem dX3_hangsNew_62 : decode cX3_hangsNew 62 = .ok (.iastore, 1) := dk_79 (dk_at dksX3_hangsNew_2 14 rfl rfl)
theorem dX3_hangsNew_63 : decode cX3_hangsNew 63 = .ok (.aload_n 0, 1) := dk_42 (dk_at dksX3_hangsNew_2 15 rfl rfl)
theorem dX3_hangsNew_64 : decode cX3_hangsNew 64 = .ok (.getfield 35, 3) := dk_180 0 35 (dk_at dksX3_hangsNew_2 16 rfl rfl)
theorem dX3_hangsNew_67 : decode cX3_hangsNew 67 = .ok (.iload_n 1, 1) := dk_27 (dk_at dksX3_hangsNew_2 19 rfl rfl)
theorem dX3_hangsNew_68 : decode cX3_hangsNew 68 = .ok (.iconst 1, 1) := dk_4 (dk_at dksX3_hangsNew_2 20 rfl rfl)
theorem dX3_hangsNew_69 : decode cX3_hangsNew 69 = .ok (.bastore, 1) := dk_84 (dk_at dksX3_hangsNew_2 21 rfl rfl)
theorem dX3_hangsNew_70 : decode cX3_hangsNew 70 = .ok (.iload_n 3, 1) := dk_29 (dk_at dksX3_hangsNew_2 22 rfl rfl)
theorem dX3_hangsNew_71 : decode cX3_hangsNew 71 = .ok (.iconst (-1), 1) := dk_2 (dk_at dksX3_hangsNew_2 23 rfl rfl)
theorem dX3_hangsNew_72 : decode cX3_hangsNew 72 = .ok (.if_icmp .ne 11, 3) := dk_160 0 11 (dk_at dksX3_hangsNew_3 0 rfl rfl)
theorem dX3_hangsNew_75 : decode cX3_hangsNew 75 = .ok (.aload_n 0, 1) := dk_42 (dk_at dksX3_hangsNew_3 3 rfl rfl)
theorem dX3_hangsNew_76 : decode cX3_hangsNew 76 = .ok (.iload_n 1, 1) := dk_27 (dk_at dksX3_hangsNew_3 4 rfl rfl)
theorem dX3_hangsNew_77 : decode cX3_hangsNew 77 = .ok (.putfield 39, 3) := dk_181 0 39 (dk_at dksX3_hangsNew_3 5 rfl rfl)
theorem dX3_hangsNew_80 : decode cX3_hangsNew 80 = .ok (.goto 29, 3) := dk_167 0 29 (dk_at dksX3_hangsNew_3 8 rfl rfl)
theorem dX3_hangsNew_83 : decode cX3_hangsNew 83 = .ok (.aload_n 0, 1) := dk_42 (dk_at dksX3_hangsNew_3 11 rfl rfl)
theorem dX3_hangsNew_84 : decode cX3_hangsNew 84 = .ok (.iload_n 1, 1) := dk_27 (dk_at dksX3_hangsNew_3 12 rfl rfl)
theorem dX3_hangsNew_85 : decode cX3_hangsNew 85 = .ok (.iload_n 3, 1) := dk_29 (dk_at dksX3_hangsNew_3 13 rfl rfl)
theorem dX3_hangsNew_86 : decode cX3_hangsNew 86 = .ok (.invokevirtual 171, 3) := dk_182 0 171 (dk_at dksX3_hangsNew_3 14 rfl rfl)
theorem dX3_hangsNew_89 : decode cX3_hangsNew 89 = .ok (.ifCond .eq 13, 3) := dk_153 0 13 (dk_at dksX3_hangsNew_3 17 rfl rfl)
theorem dX3_hangsNew_92 : decode cX3_hangsNew 92 = .ok (.aload_n 0, 1) := dk_42 (dk_at dksX3_hangsNew_3 20 rfl rfl)
theorem dX3_hangsNew_93 : decode cX3_hangsNew 93 = .ok (.getfield 26, 3) := dk_180 0 26 (dk_at dksX3_hangsNew_3 21 rfl rfl)
theorem dX3_hangsNew_96 : decode cX3_hangsNew 96 = .ok (.iload_n 3, 1) := dk_29 (dk_at dksX3_hangsNew_4 0 rfl rfl)
theorem dX3_hangsNew_97 : decode cX3_hangsNew 97 = .ok (.iload_n 1, 1) := dk_27 (dk_at dksX3_hangsNew_4 1 rfl rfl)
theorem dX3_hangsNew_98 : decode cX3_hangsNew 98 = .ok (.iastore, 1) := dk_79 (dk_at dksX3_hangsNew_4 2 rfl rfl)
theorem dX3_hangsNew_99 : decode cX3_hangsNew 99 = .ok (.goto 10, 3) := dk_167 0 10 (dk_at dksX3_hangsNew_4 3 rfl rfl)
theorem dX3_hangsNew_102 : decode cX3_hangsNew 102 = .ok (.aload_n 0, 1) := dk_42 (dk_at dksX3_hangsNew_4 6 rfl rfl)
theorem dX3_hangsNew_103 : decode cX3_hangsNew 103 = .ok (.getfield 29, 3) := dk_180 0 29 (dk_at dksX3_hangsNew_4 7 rfl rfl)
theorem dX3_hangsNew_106 : decode cX3_hangsNew 106 = .ok (.iload_n 3, 1) := dk_29 (dk_at dksX3_hangsNew_4 10 rfl rfl)
theorem dX3_hangsNew_107 : decode cX3_hangsNew 107 = .ok (.iload_n 1, 1) := dk_27 (dk_at dksX3_hangsNew_4 11 rfl rfl)
theorem dX3_hangsNew_108 : decode cX3_hangsNew 108 = .ok (.iastore, 1) := dk_79 (dk_at dksX3_hangsNew_4 12 rfl rfl)
theorem dX3_hangsNew_109 : decode cX3_hangsNew 109 = .ok (.return_, 1) := dk_177 (dk_at dksX3_hangsNew_4 13 rfl rfl)
abbrev cX3_mends : ByteArray := prog_10_method_14_code
def yX3_mends : MethodName := ⟨RX3, "mends", "(I)V"⟩
def dkwX3_mends_8 : List UInt8 := [180, 0, 35, 42, 180, 0, 39, 3, 84, 177]
abbrev dktX3_mends_8 : List UInt8 := dkwX3_mends_8 ++ []
def dkwX3_mends_7 : List UInt8 := [42, 180, 0, 35, 29, 3, 84, 42, 180, 0, 35, 21, 4, 4, 84, 42, 29, 182, 0, 179, 167, 0, 3, 42]
abbrev dktX3_mends_7 : List UInt8 := dkwX3_mends_7 ++ dktX3_mends_8
def dkwX3_mends_6 : List UInt8 := [160, 0, 7, 4, 167, 0, 4, 3, 159, 0, 16, 42, 28, 182, 0, 179, 28, 54, 6, 29, 61, 21, 6, 62]
abbrev dktX3_mends_6 : List UInt8 := dkwX3_mends_6 ++ dktX3_mends_7
def dkwX3_mends_5 : List UInt8 := [180, 0, 26, 29, 46, 28, 160, 0, 7, 4, 167, 0, 4, 3, 42, 180, 0, 26, 21, 4, 46, 29]
abbrev dktX3_mends_5 : List UInt8 := dkwX3_mends_5 ++ dktX3_mends_6
def dkwX3_mends_4 : List UInt8 := [180, 0, 35, 21, 5, 3, 84, 42, 180, 0, 35, 21, 4, 4, 84, 21, 4, 61, 167, 255, 145, 42]
abbrev dktX3_mends_4 : List UInt8 := dkwX3_mends_4 ++ dktX3_mends_5
def dkwX3_mends_3 : List UInt8 := [21, 5, 2, 159, 0, 42, 42, 180, 0, 35, 21, 5, 51, 153, 0, 32, 42, 180, 0, 35, 29, 3, 84, 42]
abbrev dktX3_mends_3 : List UInt8 := dkwX3_mends_3 ++ dktX3_mends_4
def dkwX3_mends_2 : List UInt8 := [46, 29, 160, 0, 13, 42, 180, 0, 29, 21, 4, 46, 167, 0, 10, 42, 180, 0, 26, 21, 4, 46, 54, 5]
abbrev dktX3_mends_2 : List UInt8 := dkwX3_mends_2 ++ dktX3_mends_3
def dkwX3_mends_1 : List UInt8 := [153, 0, 163, 42, 180, 0, 32, 28, 46, 62, 42, 180, 0, 32, 29, 46, 54, 4, 42, 180, 0, 26, 21, 4]
abbrev dktX3_mends_1 : List UInt8 := dkwX3_mends_1 ++ dktX3_mends_2
def dkwX3_mends_0 : List UInt8 := [27, 61, 42, 180, 0, 32, 28, 46, 2, 159, 0, 177, 42, 180, 0, 35, 42, 180, 0, 32, 28, 46, 51]
abbrev dktX3_mends_0 : List UInt8 := dkwX3_mends_0 ++ dktX3_mends_1
theorem dksX3_mends_0 : cX3_mends.data.toList.drop 0 = dktX3_mends_0 := by decide +kernel
theorem dksX3_mends_1 : cX3_mends.data.toList.drop 23 = dktX3_mends_1 := dk_seg dksX3_mends_0 23 rfl rfl
theorem dksX3_mends_2 : cX3_mends.data.toList.drop 47 = dktX3_mends_2 := dk_seg dksX3_mends_1 24 rfl rfl
theorem dksX3_mends_3 : cX3_mends.data.toList.drop 71 = dktX3_mends_3 := dk_seg dksX3_mends_2 24 rfl rfl
theorem dksX3_mends_4 : cX3_mends.data.toList.drop 95 = dktX3_mends_4 := dk_seg dksX3_mends_3 24 rfl rfl
theorem dksX3_mends_5 : cX3_mends.data.toList.drop 117 = dktX3_mends_5 := dk_seg dksX3_mends_4 22 rfl rfl
theorem dksX3_mends_6 : cX3_mends.data.toList.drop 139 = dktX3_mends_6 := dk_seg dksX3_mends_5 22 rfl rfl
theorem dksX3_mends_7 : cX3_mends.data.toList.drop 163 = dktX3_mends_7 := dk_seg dksX3_mends_6 24 rfl rfl
theorem dksX3_mends_8 : cX3_mends.data.toList.drop 187 = dktX3_mends_8 := dk_seg dksX3_mends_7 24 rfl rfl
theorem dX3_mends_0 : decode cX3_mends 0 = .ok (.iload_n 1, 1) := dk_27 (dk_at dksX3_mends_0 0 rfl rfl)
theorem dX3_mends_1 : decode cX3_mends 1 = .ok (.istore_n 2, 1) := dk_61 (dk_at dksX3_mends_0 1 rfl rfl)
theorem dX3_mends_2 : decode cX3_mends 2 = .ok (.aload_n 0, 1) := dk_42 (dk_at dksX3_mends_0 2 rfl rfl)
theorem dX3_mends_3 : decode cX3_mends 3 = .ok (.getfield 32, 3) := dk_180 0 32 (dk_at dksX3_mends_0 3 rfl rfl)
theorem dX3_mends_6 : decode cX3_mends 6 = .ok (.iload_n 2, 1) := dk_28 (dk_at dksX3_mends_0 6 rfl rfl)
theorem dX3_mends_7 : decode cX3_mends 7 = .ok (.iaload, 1) := dk_46 (dk_at dksX3_mends_0 7 rfl rfl)
theorem dX3_mends_8 : decode cX3_mends 8 = .ok (.iconst (-1), 1) := dk_2 (dk_at dksX3_mends_0 8 rfl rfl)
theorem dX3_mends_9 : decode cX3_mends 9 = .ok (.if_icmp .eq 177, 3) := dk_159 0 177 (dk_at dksX3_mends_0 9 rfl rfl)
theorem dX3_mends_12 : decode cX3_mends 12 = .ok (.aload_n 0, 1) := dk_42 (dk_at dksX3_mends_0 12 rfl rfl)
theorem dX3_mends_13 : decode cX3_mends 13 = .ok (.getfield 35, 3) := dk_180 0 35 (dk_at dksX3_mends_0 13 rfl rfl)
theorem dX3_mends_16 : decode cX3_mends 16 = .ok (.aload_n 0, 1) := dk_42 (dk_at dksX3_mends_0 16 rfl rfl)
theorem dX3_mends_17 : decode cX3_mends 17 = .ok (.getfield 32, 3) := dk_180 0 32 (dk_at dksX3_mends_0 17 rfl rfl)
theorem dX3_mends_20 : decode cX3_mends 20 = .ok (.iload_n 2, 1) := dk_28 (dk_at dksX3_mends_0 20 rfl rfl)
theorem dX3_mends_21 : decode cX3_mends 21 = .ok (.iaload, 1) := dk_46 (dk_at dksX3_mends_0 21 rfl rfl)
theorem dX3_mends_22 : decode cX3_mends 22 = .ok (.baload, 1) := dk_51 (dk_at dksX3_mends_0 22 rfl rfl)
theorem dX3_mends_23 : decode cX3_mends 23 = .ok (.ifCond .eq 163, 3) := dk_153 0 163 (dk_at dksX3_mends_1 0 rfl rfl)
theorem dX3_mends_26 : decode cX3_mends 26 = .ok (.aload_n 0, 1) := dk_42 (dk_at dksX3_mends_1 3 rfl rfl)
theorem dX3_mends_27 : decode cX3_mends 27 = .ok (.getfield 32, 3) := dk_180 0 32 (dk_at dksX3_mends_1 4 rfl rfl)
theorem dX3_mends_30 : decode cX3_mends 30 = .ok (.iload_n 2, 1) := dk_28 (dk_at dksX3_mends_1 7 rfl rfl)
theorem dX3_mends_31 : decode cX3_mends 31 = .ok (.iaload, 1) := dk_46 (dk_at dksX3_mends_1 8 rfl rfl)
theorem dX3_mends_32 : decode cX3_mends 32 = .ok (.istore_n 3, 1) := dk_62 (dk_at dksX3_mends_1 9 rfl rfl)
theorem dX3_mends_33 : decode cX3_mends 33 = .ok (.aload_n 0, 1) := dk_42 (dk_at dksX3_mends_1 10 rfl rfl)
theorem dX3_mends_34 : decode cX3_mends 34 = .ok (.getfield 32, 3) := dk_180 0 32 (dk_at dksX3_mends_1 11 rfl rfl)
theorem dX3_mends_37 : decode cX3_mends 37 = .ok (.iload_n 3, 1) := dk_29 (dk_at dksX3_mends_1 14 rfl rfl)
theorem dX3_mends_38 : decode cX3_mends 38 = .ok (.iaload, 1) := dk_46 (dk_at dksX3_mends_1 15 rfl rfl)
theorem dX3_mends_39 : decode cX3_mends 39 = .ok (.istore 4, 2) := dk_54 4 (dk_at dksX3_mends_1 16 rfl rfl)
theorem dX3_mends_41 : decode cX3_mends 41 = .ok (.aload_n 0, 1) := dk_42 (dk_at dksX3_mends_1 18 rfl rfl)
theorem dX3_mends_42 : decode cX3_mends 42 = .ok (.getfield 26, 3) := dk_180 0 26 (dk_at dksX3_mends_1 19 rfl rfl)
theorem dX3_mends_45 : decode cX3_mends 45 = .ok (.iload 4, 2) := dk_21 4 (dk_at dksX3_mends_1 22 rfl rfl)
theorem dX3_mends_47 : decode cX3_mends 47 = .ok (.iaload, 1) := dk_46 (dk_at dksX3_mends_2 0 rfl rfl)
theorem dX3_mends_48 : decode cX3_mends 48 = .ok (.iload_n 3, 1) := dk_29 (dk_at dksX3_mends_2 1 rfl rfl)
theorem dX3_mends_49 : decode cX3_mends 49 = .ok (.if_icmp .ne 13, 3) := dk_160 0 13 (dk_at dksX3_mends_2 2 rfl rfl)
theorem dX3_mends_52 : decode cX3_mends 52 = .ok (.aload_n 0, 1) := dk_42 (dk_at dksX3_mends_2 5 rfl rfl)
theorem dX3_mends_53 : decode cX3_mends 53 = .ok (.getfield 29, 3) := dk_180 0 29 (dk_at dksX3_mends_2 6 rfl rfl)
theorem dX3_mends_56 : decode cX3_mends 56 = .ok (.iload 4, 2) := dk_21 4 (dk_at dksX3_mends_2 9 rfl rfl)
theorem dX3_mends_58 : decode cX3_mends 58 = .ok (.iaload, 1) := dk_46 (dk_at dksX3_mends_2 11 rfl rfl)
theorem dX3_mends_59 : decode cX3_mends 59 = .ok (.goto 10, 3) := dk_167 0 10 (dk_at dksX3_mends_2 12 rfl rfl)
theorem dX3_mends_62 : decode cX3_mends 62 = .ok (.aload_n 0, 1) := dk_42 (dk_at dksX3_mends_2 15 rfl rfl)
theorem dX3_mends_63 : decode cX3_mends 63 = .ok (.getfield 26, 3) := dk_180 0 26 (dk_at dksX3_mends_2 16 rfl rfl)
theorem dX3_mends_66 : decode cX3_mends 66 = .ok (.iload 4, 2) := dk_21 4 (dk_at dksX3_mends_2 19 rfl rfl)
theorem dX3_mends_68 : decode cX3_mends 68 = .ok (.iaload, 1) := dk_46 (dk_at dksX3_mends_2 21 rfl rfl)
theorem dX3_mends_69 : decode cX3_mends 69 = .ok (.istore 5, 2) := dk_54 5 (dk_at dksX3_mends_2 22 rfl rfl)
theorem dX3_mends_71 : decode cX3_mends 71 = .ok (.iload 5, 2) := dk_21 5 (dk_at dksX3_mends_3 0 rfl rfl)
theorem dX3_mends_73 : decode cX3_mends 73 = .ok (.iconst (-1), 1) := dk_2 (dk_at dksX3_mends_3 2 rfl rfl)
theorem dX3_mends_74 : decode cX3_mends 74 = .ok (.if_icmp .eq 42, 3) := dk_159 0 42 (dk_at dksX3_mends_3 3 rfl rfl)
theorem dX3_mends_77 : decode cX3_mends 77 = .ok (.aload_n 0, 1) := dk_42 (dk_at dksX3_mends_3 6 rfl rfl)
theorem dX3_mends_78 : decode cX3_mends 78 = .ok (.getfield 35, 3) := dk_180 0 35 (dk_at dksX3_mends_3 7 rfl rfl)
theorem dX3_mends_81 : decode cX3_mends 81 = .ok (.iload 5, 2) := dk_21 5 (dk_at dksX3_mends_3 10 rfl rfl)
theorem dX3_mends_83 : decode cX3_mends 83 = .ok (.baload, 1) := dk_51 (dk_at dksX3_mends_3 12 rfl rfl)
theorem dX3_mends_84 : decode cX3_mends 84 = .ok (.ifCond .eq 32, 3) := dk_153 0 32 (dk_at dksX3_mends_3 13 rfl rfl)
theorem dX3_mends_87 : decode cX3_mends 87 = .ok (.aload_n 0, 1) := dk_42 (dk_at dksX3_mends_3 16 rfl rfl)
theorem dX3_mends_88 : decode cX3_mends 88 = .ok (.getfield 35, 3) := dk_180 0 35 (dk_at dksX3_mends_3 17 rfl rfl)
theorem dX3_mends_91 : decode cX3_mends 91 = .ok (.iload_n 3, 1) := dk_29 (dk_at dksX3_mends_3 20 rfl rfl)
theorem dX3_mends_92 : decode cX3_mends 92 = .ok (.iconst 0, 1) := dk_3 (dk_at dksX3_mends_3 21 rfl rfl)
theorem dX3_mends_93 : decode cX3_mends 93 = .ok (.bastore, 1) := dk_84 (dk_at dksX3_mends_3 22 rfl rfl)
theorem dX3_mends_94 : decode cX3_mends 94 = .ok (.aload_n 0, 1) := dk_42 (dk_at dksX3_mends_3 23 rfl rfl)
theorem dX3_mends_95 : decode cX3_mends 95 = .ok (.getfield 35, 3) := dk_180 0 35 (dk_at dksX3_mends_4 0 rfl rfl)
theorem dX3_mends_98 : decode cX3_mends 98 = .ok (.iload 5, 2) := dk_21 5 (dk_at dksX3_mends_4 3 rfl rfl)
theorem dX3_mends_100 : decode cX3_mends 100 = .ok (.iconst 0, 1) := dk_3 (dk_at dksX3_mends_4 5 rfl rfl)
theorem dX3_mends_101 : decode cX3_mends 101 = .ok (.bastore, 1) := dk_84 (dk_at dksX3_mends_4 6 rfl rfl)
theorem dX3_mends_102 : decode cX3_mends 102 = .ok (.aload_n 0, 1) := dk_42 (dk_at dksX3_mends_4 7 rfl rfl)
theorem dX3_mends_103 : decode cX3_mends 103 = .ok (.getfield 35, 3) := dk_180 0 35 (dk_at dksX3_mends_4 8 rfl rfl)
theorem dX3_mends_106 : decode cX3_mends 106 = .ok (.iload 4, 2) := dk_21 4 (dk_at dksX3_mends_4 11 rfl rfl)
theorem dX3_mends_108 : decode cX3_mends 108 = .ok (.iconst 1, 1) := dk_4 (dk_at dksX3_mends_4 13 rfl rfl)
theorem dX3_mends_109 : decode cX3_mends 109 = .ok (.bastore, 1) := dk_84 (dk_at dksX3_mends_4 14 rfl rfl)
theorem dX3_mends_110 : decode cX3_mends 110 = .ok (.iload 4, 2) := dk_21 4 (dk_at dksX3_mends_4 15 rfl rfl)
theorem dX3_mends_112 : decode cX3_mends 112 = .ok (.istore_n 2, 1) := dk_61 (dk_at dksX3_mends_4 17 rfl rfl)
theorem dX3_mends_113 : decode cX3_mends 113 = .ok (.goto (-111), 3) := dk_167 255 145 (dk_at dksX3_mends_4 18 rfl rfl)
theorem dX3_mends_116 : decode cX3_mends 116 = .ok (.aload_n 0, 1) := dk_42 (dk_at dksX3_mends_4 21 rfl rfl)
theorem dX3_mends_117 : decode cX3_mends 117 = .ok (.getfield 26, 3) := dk_180 0 26 (dk_at dksX3_mends_5 0 rfl rfl)
theorem dX3_mends_120 : decode cX3_mends 120 = .ok (.iload_n 3, 1) := dk_29 (dk_at dksX3_mends_5 3 rfl rfl)
theorem dX3_mends_121 : decode cX3_mends 121 = .ok (.iaload, 1) := dk_46 (dk_at dksX3_mends_5 4 rfl rfl)
theorem dX3_mends_122 : decode cX3_mends 122 = .ok (.iload_n 2, 1) := dk_28 (dk_at dksX3_mends_5 5 rfl rfl)
theorem dX3_mends_123 : decode cX3_mends 123 = .ok (.if_icmp .ne 7, 3) := dk_160 0 7 (dk_at dksX3_mends_5 6 rfl rfl)
theorem dX3_mends_126 : decode cX3_mends 126 = .ok (.iconst 1, 1) := dk_4 (dk_at dksX3_mends_5 9 rfl rfl)
theorem dX3_mends_127 : decode cX3_mends 127 = .ok (.goto 4, 3) := dk_167 0 4 (dk_at dksX3_mends_5 10 rfl rfl)
theorem dX3_mends_130 : decode cX3_mends 130 = .ok (.iconst 0, 1) := dk_3 (dk_at dksX3_mends_5 13 rfl rfl)
theorem dX3_mends_131 : decode cX3_mends 131 = .ok (.aload_n 0, 1) := dk_42 (dk_at dksX3_mends_5 14 rfl rfl)
theorem dX3_mends_132 : decode cX3_mends 132 = .ok (.getfield 26, 3) := dk_180 0 26 (dk_at dksX3_mends_5 15 rfl rfl)
theorem dX3_mends_135 : decode cX3_mends 135 = .ok (.iload 4, 2) := dk_21 4 (dk_at dksX3_mends_5 18 rfl rfl)
theorem dX3_mends_137 : decode cX3_mends 137 = .ok (.iaload, 1) := dk_46 (dk_at dksX3_mends_5 20 rfl rfl)
theorem dX3_mends_138 : decode cX3_mends 138 = .ok (.iload_n 3, 1) := dk_29 (dk_at dksX3_mends_5 21 rfl rfl)
theorem dX3_mends_139 : decode cX3_mends 139 = .ok (.if_icmp .ne 7, 3) := dk_160 0 7 (dk_at dksX3_mends_6 0 rfl rfl)
theorem dX3_mends_142 : decode cX3_mends 142 = .ok (.iconst 1, 1) := dk_4 (dk_at dksX3_mends_6 3 rfl rfl)
theorem dX3_mends_143 : decode cX3_mends 143 = .ok (.goto 4, 3) := dk_167 0 4 (dk_at dksX3_mends_6 4 rfl rfl)
theorem dX3_mends_146 : decode cX3_mends 146 = .ok (.iconst 0, 1) := dk_3 (dk_at dksX3_mends_6 7 rfl rfl)
theorem dX3_mends_147 : decode cX3_mends 147 = .ok (.if_icmp .eq 16, 3) := dk_159 0 16 (dk_at dksX3_mends_6 8 rfl rfl)
theorem dX3_mends_150 : decode cX3_mends 150 = .ok (.aload_n 0, 1) := dk_42 (dk_at dksX3_mends_6 11 rfl rfl)
theorem dX3_mends_151 : decode cX3_mends 151 = .ok (.iload_n 2, 1) := dk_28 (dk_at dksX3_mends_6 12 rfl rfl)
theorem dX3_mends_152 : decode cX3_mends 152 = .ok (.invokevirtual 179, 3) := dk_182 0 179 (dk_at dksX3_mends_6 13 rfl rfl)
theorem dX3_mends_155 : decode cX3_mends 155 = .ok (.iload_n 2, 1) := dk_28 (dk_at dksX3_mends_6 16 rfl rfl)
theorem dX3_mends_156 : decode cX3_mends 156 = .ok (.istore 6, 2) := dk_54 6 (dk_at dksX3_mends_6 17 rfl rfl)
theorem dX3_mends_158 : decode cX3_mends 158 = .ok (.iload_n 3, 1) := dk_29 (dk_at dksX3_mends_6 19 rfl rfl)
theorem dX3_mends_159 : decode cX3_mends 159 = .ok (.istore_n 2, 1) := dk_61 (dk_at dksX3_mends_6 20 rfl rfl)
theorem dX3_mends_160 : decode cX3_mends 160 = .ok (.iload 6, 2) := dk_21 6 (dk_at dksX3_mends_6 21 rfl rfl)
theorem dX3_mends_162 : decode cX3_mends 162 = .ok (.istore_n 3, 1) := dk_62 (dk_at dksX3_mends_6 23 rfl rfl)
theorem dX3_mends_163 : decode cX3_mends 163 = .ok (.aload_n 0, 1) := dk_42 (dk_at dksX3_mends_7 0 rfl rfl)
theorem dX3_mends_164 : decode cX3_mends 164 = .ok (.getfield 35, 3) := dk_180 0 35 (dk_at dksX3_mends_7 1 rfl rfl)
theorem dX3_mends_167 : decode cX3_mends 167 = .ok (.iload_n 3, 1) := dk_29 (dk_at dksX3_mends_7 4 rfl rfl)
theorem dX3_mends_168 : decode cX3_mends 168 = .ok (.iconst 0, 1) := dk_3 (dk_at dksX3_mends_7 5 rfl rfl)
theorem dX3_mends_169 : decode cX3_mends 169 = .ok (.bastore, 1) := dk_84 (dk_at dksX3_mends_7 6 rfl rfl)
theorem dX3_mends_170 : decode cX3_mends 170 = .ok (.aload_n 0, 1) := dk_42 (dk_at dksX3_mends_7 7 rfl rfl)
theorem dX3_mends_171 : decode cX3_mends 171 = .ok (.getfield 35, 3) := dk_180 0 35 (dk_at dksX3_mends_7 8 rfl rfl)
theorem dX3_mends_174 : decode cX3_mends 174 = .ok (.iload 4, 2) := dk_21 4 (dk_at dksX3_mends_7 11 rfl rfl)
theorem dX3_mends_176 : decode cX3_mends 176 = .ok (.iconst 1, 1) := dk_4 (dk_at dksX3_mends_7 13 rfl rfl)
theorem dX3_mends_177 : decode cX3_mends 177 = .ok (.bastore, 1) := dk_84 (dk_at dksX3_mends_7 14 rfl rfl)
theorem dX3_mends_178 : decode cX3_mends 178 = .ok (.aload_n 0, 1) := dk_42 (dk_at dksX3_mends_7 15 rfl rfl)
theorem dX3_mends_179 : decode cX3_mends 179 = .ok (.iload_n 3, 1) := dk_29 (dk_at dksX3_mends_7 16 rfl rfl)
theorem dX3_mends_180 : decode cX3_mends 180 = .ok (.invokevirtual 179, 3) := dk_182 0 179 (dk_at dksX3_mends_7 17 rfl rfl)
theorem dX3_mends_183 : decode cX3_mends 183 = .ok (.goto 3, 3) := dk_167 0 3 (dk_at dksX3_mends_7 20 rfl rfl)
theorem dX3_mends_186 : decode cX3_mends 186 = .ok (.aload_n 0, 1) := dk_42 (dk_at dksX3_mends_7 23 rfl rfl)
theorem dX3_mends_187 : decode cX3_mends 187 = .ok (.getfield 35, 3) := dk_180 0 35 (dk_at dksX3_mends_8 0 rfl rfl)
theorem dX3_mends_190 : decode cX3_mends 190 = .ok (.aload_n 0, 1) := dk_42 (dk_at dksX3_mends_8 3 rfl rfl)
theorem dX3_mends_191 : decode cX3_mends 191 = .ok (.getfield 39, 3) := dk_180 0 39 (dk_at dksX3_mends_8 4 rfl rfl)
theorem dX3_mends_194 : decode cX3_mends 194 = .ok (.iconst 0, 1) := dk_3 (dk_at dksX3_mends_8 7 rfl rfl)
theorem dX3_mends_195 : decode cX3_mends 195 = .ok (.bastore, 1) := dk_84 (dk_at dksX3_mends_8 8 rfl rfl)
theorem dX3_mends_196 : decode cX3_mends 196 = .ok (.return_, 1) := dk_177 (dk_at dksX3_mends_8 9 rfl rfl)
abbrev cX3_rises : ByteArray := prog_10_method_12_code
def yX3_rises : MethodName := ⟨RX3, "rises", "(I)V"⟩
def dkwX3_rises_5 : List UInt8 := [182, 0, 175, 42, 180, 0, 32, 28, 27, 79, 177]
abbrev dktX3_rises_5 : List UInt8 := dkwX3_rises_5 ++ []
def dkwX3_rises_4 : List UInt8 := [180, 0, 32, 42, 180, 0, 26, 27, 46, 28, 79, 42, 180, 0, 26, 27, 28, 79, 42, 29, 28, 27]
abbrev dktX3_rises_4 : List UInt8 := dkwX3_rises_4 ++ dktX3_rises_5
def dkwX3_rises_3 : List UInt8 := [180, 0, 29, 28, 42, 180, 0, 26, 27, 46, 79, 42, 180, 0, 26, 27, 46, 2, 159, 0, 15, 42]
abbrev dktX3_rises_3 : List UInt8 := dkwX3_rises_3 ++ dktX3_rises_4
def dkwX3_rises_2 : List UInt8 := [180, 0, 32, 42, 180, 0, 29, 27, 46, 28, 79, 42, 180, 0, 29, 27, 28, 79, 167, 0, 44, 42]
abbrev dktX3_rises_2 : List UInt8 := dkwX3_rises_2 ++ dktX3_rises_3
def dkwX3_rises_1 : List UInt8 := [42, 180, 0, 26, 28, 42, 180, 0, 29, 27, 46, 79, 42, 180, 0, 29, 27, 46, 2, 159, 0, 15, 42]
abbrev dktX3_rises_1 : List UInt8 := dkwX3_rises_1 ++ dktX3_rises_2
def dkwX3_rises_0 : List UInt8 := [42, 180, 0, 32, 27, 46, 61, 42, 180, 0, 32, 28, 46, 62, 42, 180, 0, 26, 28, 46, 27, 160, 0, 47]
abbrev dktX3_rises_0 : List UInt8 := dkwX3_rises_0 ++ dktX3_rises_1
theorem dksX3_rises_0 : cX3_rises.data.toList.drop 0 = dktX3_rises_0 := by decide +kernel
theorem dksX3_rises_1 : cX3_rises.data.toList.drop 24 = dktX3_rises_1 := dk_seg dksX3_rises_0 24 rfl rfl
theorem dksX3_rises_2 : cX3_rises.data.toList.drop 47 = dktX3_rises_2 := dk_seg dksX3_rises_1 23 rfl rfl
theorem dksX3_rises_3 : cX3_rises.data.toList.drop 69 = dktX3_rises_3 := dk_seg dksX3_rises_2 22 rfl rfl
theorem dksX3_rises_4 : cX3_rises.data.toList.drop 91 = dktX3_rises_4 := dk_seg dksX3_rises_3 22 rfl rfl
theorem dksX3_rises_5 : cX3_rises.data.toList.drop 113 = dktX3_rises_5 := dk_seg dksX3_rises_4 22 rfl rfl
theorem dX3_rises_0 : decode cX3_rises 0 = .ok (.aload_n 0, 1) := dk_42 (dk_at dksX3_rises_0 0 rfl rfl)
theorem dX3_rises_1 : decode cX3_rises 1 = .ok (.getfield 32, 3) := dk_180 0 32 (dk_at dksX3_rises_0 1 rfl rfl)
theorem dX3_rises_4 : decode cX3_rises 4 = .ok (.iload_n 1, 1) := dk_27 (dk_at dksX3_rises_0 4 rfl rfl)
theorem dX3_rises_5 : decode cX3_rises 5 = .ok (.iaload, 1) := dk_46 (dk_at dksX3_rises_0 5 rfl rfl)
theorem dX3_rises_6 : decode cX3_rises 6 = .ok (.istore_n 2, 1) := dk_61 (dk_at dksX3_rises_0 6 rfl rfl)
theorem dX3_rises_7 : decode cX3_rises 7 = .ok (.aload_n 0, 1) := dk_42 (dk_at dksX3_rises_0 7 rfl rfl)
theorem dX3_rises_8 : decode cX3_rises 8 = .ok (.getfield 32, 3) := dk_180 0 32 (dk_at dksX3_rises_0 8 rfl rfl)
theorem dX3_rises_11 : decode cX3_rises 11 = .ok (.iload_n 2, 1) := dk_28 (dk_at dksX3_rises_0 11 rfl rfl)
theorem dX3_rises_12 : decode cX3_rises 12 = .ok (.iaload, 1) := dk_46 (dk_at dksX3_rises_0 12 rfl rfl)
theorem dX3_rises_13 : decode cX3_rises 13 = .ok (.istore_n 3, 1) := dk_62 (dk_at dksX3_rises_0 13 rfl rfl)
theorem dX3_rises_14 : decode cX3_rises 14 = .ok (.aload_n 0, 1) := dk_42 (dk_at dksX3_rises_0 14 rfl rfl)
theorem dX3_rises_15 : decode cX3_rises 15 = .ok (.getfield 26, 3) := dk_180 0 26 (dk_at dksX3_rises_0 15 rfl rfl)
theorem dX3_rises_18 : decode cX3_rises 18 = .ok (.iload_n 2, 1) := dk_28 (dk_at dksX3_rises_0 18 rfl rfl)
theorem dX3_rises_19 : decode cX3_rises 19 = .ok (.iaload, 1) := dk_46 (dk_at dksX3_rises_0 19 rfl rfl)
theorem dX3_rises_20 : decode cX3_rises 20 = .ok (.iload_n 1, 1) := dk_27 (dk_at dksX3_rises_0 20 rfl rfl)
theorem dX3_rises_21 : decode cX3_rises 21 = .ok (.if_icmp .ne 47, 3) := dk_160 0 47 (dk_at dksX3_rises_0 21 rfl rfl)
theorem dX3_rises_24 : decode cX3_rises 24 = .ok (.aload_n 0, 1) := dk_42 (dk_at dksX3_rises_1 0 rfl rfl)
theorem dX3_rises_25 : decode cX3_rises 25 = .ok (.getfield 26, 3) := dk_180 0 26 (dk_at dksX3_rises_1 1 rfl rfl)
theorem dX3_rises_28 : decode cX3_rises 28 = .ok (.iload_n 2, 1) := dk_28 (dk_at dksX3_rises_1 4 rfl rfl)
theorem dX3_rises_29 : decode cX3_rises 29 = .ok (.aload_n 0, 1) := dk_42 (dk_at dksX3_rises_1 5 rfl rfl)
theorem dX3_rises_30 : decode cX3_rises 30 = .ok (.getfield 29, 3) := dk_180 0 29 (dk_at dksX3_rises_1 6 rfl rfl)
theorem dX3_rises_33 : decode cX3_rises 33 = .ok (.iload_n 1, 1) := dk_27 (dk_at dksX3_rises_1 9 rfl rfl)
theorem dX3_rises_34 : decode cX3_rises 34 = .ok (.iaload, 1) := dk_46 (dk_at dksX3_rises_1 10 rfl rfl)
theorem dX3_rises_35 : decode cX3_rises 35 = .ok (.iastore, 1) := dk_79 (dk_at dksX3_rises_1 11 rfl rfl)
theorem dX3_rises_36 : decode cX3_rises 36 = .ok (.aload_n 0, 1) := dk_42 (dk_at dksX3_rises_1 12 rfl rfl)
theorem dX3_rises_37 : decode cX3_rises 37 = .ok (.getfield 29, 3) := dk_180 0 29 (dk_at dksX3_rises_1 13 rfl rfl)
theorem dX3_rises_40 : decode cX3_rises 40 = .ok (.iload_n 1, 1) := dk_27 (dk_at dksX3_rises_1 16 rfl rfl)
theorem dX3_rises_41 : decode cX3_rises 41 = .ok (.iaload, 1) := dk_46 (dk_at dksX3_rises_1 17 rfl rfl)
theorem dX3_rises_42 : decode cX3_rises 42 = .ok (.iconst (-1), 1) := dk_2 (dk_at dksX3_rises_1 18 rfl rfl)
theorem dX3_rises_43 : decode cX3_rises 43 = .ok (.if_icmp .eq 15, 3) := dk_159 0 15 (dk_at dksX3_rises_1 19 rfl rfl)
theorem dX3_rises_46 : decode cX3_rises 46 = .ok (.aload_n 0, 1) := dk_42 (dk_at dksX3_rises_1 22 rfl rfl)
theorem dX3_rises_47 : decode cX3_rises 47 = .ok (.getfield 32, 3) := dk_180 0 32 (dk_at dksX3_rises_2 0 rfl rfl)
theorem dX3_rises_50 : decode cX3_rises 50 = .ok (.aload_n 0, 1) := dk_42 (dk_at dksX3_rises_2 3 rfl rfl)
theorem dX3_rises_51 : decode cX3_rises 51 = .ok (.getfield 29, 3) := dk_180 0 29 (dk_at dksX3_rises_2 4 rfl rfl)
theorem dX3_rises_54 : decode cX3_rises 54 = .ok (.iload_n 1, 1) := dk_27 (dk_at dksX3_rises_2 7 rfl rfl)
theorem dX3_rises_55 : decode cX3_rises 55 = .ok (.iaload, 1) := dk_46 (dk_at dksX3_rises_2 8 rfl rfl)
theorem dX3_rises_56 : decode cX3_rises 56 = .ok (.iload_n 2, 1) := dk_28 (dk_at dksX3_rises_2 9 rfl rfl)
theorem dX3_rises_57 : decode cX3_rises 57 = .ok (.iastore, 1) := dk_79 (dk_at dksX3_rises_2 10 rfl rfl)
theorem dX3_rises_58 : decode cX3_rises 58 = .ok (.aload_n 0, 1) := dk_42 (dk_at dksX3_rises_2 11 rfl rfl)
theorem dX3_rises_59 : decode cX3_rises 59 = .ok (.getfield 29, 3) := dk_180 0 29 (dk_at dksX3_rises_2 12 rfl rfl)
theorem dX3_rises_62 : decode cX3_rises 62 = .ok (.iload_n 1, 1) := dk_27 (dk_at dksX3_rises_2 15 rfl rfl)
theorem dX3_rises_63 : decode cX3_rises 63 = .ok (.iload_n 2, 1) := dk_28 (dk_at dksX3_rises_2 16 rfl rfl)
theorem dX3_rises_64 : decode cX3_rises 64 = .ok (.iastore, 1) := dk_79 (dk_at dksX3_rises_2 17 rfl rfl)
theorem dX3_rises_65 : decode cX3_rises 65 = .ok (.goto 44, 3) := dk_167 0 44 (dk_at dksX3_rises_2 18 rfl rfl)
theorem dX3_rises_68 : decode cX3_rises 68 = .ok (.aload_n 0, 1) := dk_42 (dk_at dksX3_rises_2 21 rfl rfl)
theorem dX3_rises_69 : decode cX3_rises 69 = .ok (.getfield 29, 3) := dk_180 0 29 (dk_at dksX3_rises_3 0 rfl rfl)
theorem dX3_rises_72 : decode cX3_rises 72 = .ok (.iload_n 2, 1) := dk_28 (dk_at dksX3_rises_3 3 rfl rfl)
theorem dX3_rises_73 : decode cX3_rises 73 = .ok (.aload_n 0, 1) := dk_42 (dk_at dksX3_rises_3 4 rfl rfl)
theorem dX3_rises_74 : decode cX3_rises 74 = .ok (.getfield 26, 3) := dk_180 0 26 (dk_at dksX3_rises_3 5 rfl rfl)
theorem dX3_rises_77 : decode cX3_rises 77 = .ok (.iload_n 1, 1) := dk_27 (dk_at dksX3_rises_3 8 rfl rfl)
theorem dX3_rises_78 : decode cX3_rises 78 = .ok (.iaload, 1) := dk_46 (dk_at dksX3_rises_3 9 rfl rfl)
theorem dX3_rises_79 : decode cX3_rises 79 = .ok (.iastore, 1) := dk_79 (dk_at dksX3_rises_3 10 rfl rfl)
theorem dX3_rises_80 : decode cX3_rises 80 = .ok (.aload_n 0, 1) := dk_42 (dk_at dksX3_rises_3 11 rfl rfl)
theorem dX3_rises_81 : decode cX3_rises 81 = .ok (.getfield 26, 3) := dk_180 0 26 (dk_at dksX3_rises_3 12 rfl rfl)
theorem dX3_rises_84 : decode cX3_rises 84 = .ok (.iload_n 1, 1) := dk_27 (dk_at dksX3_rises_3 15 rfl rfl)
theorem dX3_rises_85 : decode cX3_rises 85 = .ok (.iaload, 1) := dk_46 (dk_at dksX3_rises_3 16 rfl rfl)
theorem dX3_rises_86 : decode cX3_rises 86 = .ok (.iconst (-1), 1) := dk_2 (dk_at dksX3_rises_3 17 rfl rfl)
theorem dX3_rises_87 : decode cX3_rises 87 = .ok (.if_icmp .eq 15, 3) := dk_159 0 15 (dk_at dksX3_rises_3 18 rfl rfl)
theorem dX3_rises_90 : decode cX3_rises 90 = .ok (.aload_n 0, 1) := dk_42 (dk_at dksX3_rises_3 21 rfl rfl)
theorem dX3_rises_91 : decode cX3_rises 91 = .ok (.getfield 32, 3) := dk_180 0 32 (dk_at dksX3_rises_4 0 rfl rfl)
theorem dX3_rises_94 : decode cX3_rises 94 = .ok (.aload_n 0, 1) := dk_42 (dk_at dksX3_rises_4 3 rfl rfl)
theorem dX3_rises_95 : decode cX3_rises 95 = .ok (.getfield 26, 3) := dk_180 0 26 (dk_at dksX3_rises_4 4 rfl rfl)
theorem dX3_rises_98 : decode cX3_rises 98 = .ok (.iload_n 1, 1) := dk_27 (dk_at dksX3_rises_4 7 rfl rfl)
theorem dX3_rises_99 : decode cX3_rises 99 = .ok (.iaload, 1) := dk_46 (dk_at dksX3_rises_4 8 rfl rfl)
theorem dX3_rises_100 : decode cX3_rises 100 = .ok (.iload_n 2, 1) := dk_28 (dk_at dksX3_rises_4 9 rfl rfl)
theorem dX3_rises_101 : decode cX3_rises 101 = .ok (.iastore, 1) := dk_79 (dk_at dksX3_rises_4 10 rfl rfl)
theorem dX3_rises_102 : decode cX3_rises 102 = .ok (.aload_n 0, 1) := dk_42 (dk_at dksX3_rises_4 11 rfl rfl)
theorem dX3_rises_103 : decode cX3_rises 103 = .ok (.getfield 26, 3) := dk_180 0 26 (dk_at dksX3_rises_4 12 rfl rfl)
theorem dX3_rises_106 : decode cX3_rises 106 = .ok (.iload_n 1, 1) := dk_27 (dk_at dksX3_rises_4 15 rfl rfl)
theorem dX3_rises_107 : decode cX3_rises 107 = .ok (.iload_n 2, 1) := dk_28 (dk_at dksX3_rises_4 16 rfl rfl)
theorem dX3_rises_108 : decode cX3_rises 108 = .ok (.iastore, 1) := dk_79 (dk_at dksX3_rises_4 17 rfl rfl)
theorem dX3_rises_109 : decode cX3_rises 109 = .ok (.aload_n 0, 1) := dk_42 (dk_at dksX3_rises_4 18 rfl rfl)
theorem dX3_rises_110 : decode cX3_rises 110 = .ok (.iload_n 3, 1) := dk_29 (dk_at dksX3_rises_4 19 rfl rfl)
theorem dX3_rises_111 : decode cX3_rises 111 = .ok (.iload_n 2, 1) := dk_28 (dk_at dksX3_rises_4 20 rfl rfl)
theorem dX3_rises_112 : decode cX3_rises 112 = .ok (.iload_n 1, 1) := dk_27 (dk_at dksX3_rises_4 21 rfl rfl)
theorem dX3_rises_113 : decode cX3_rises 113 = .ok (.invokevirtual 175, 3) := dk_182 0 175 (dk_at dksX3_rises_5 0 rfl rfl)
theorem dX3_rises_116 : decode cX3_rises 116 = .ok (.aload_n 0, 1) := dk_42 (dk_at dksX3_rises_5 3 rfl rfl)
theorem dX3_rises_117 : decode cX3_rises 117 = .ok (.getfield 32, 3) := dk_180 0 32 (dk_at dksX3_rises_5 4 rfl rfl)
theorem dX3_rises_120 : decode cX3_rises 120 = .ok (.iload_n 2, 1) := dk_28 (dk_at dksX3_rises_5 7 rfl rfl)
theorem dX3_rises_121 : decode cX3_rises 121 = .ok (.iload_n 1, 1) := dk_27 (dk_at dksX3_rises_5 8 rfl rfl)
theorem dX3_rises_122 : decode cX3_rises 122 = .ok (.iastore, 1) := dk_79 (dk_at dksX3_rises_5 9 rfl rfl)
theorem dX3_rises_123 : decode cX3_rises 123 = .ok (.return_, 1) := dk_177 (dk_at dksX3_rises_5 10 rfl rfl)
abbrev cX3_hangs : ByteArray := prog_10_method_11_code
def yX3_hangs : MethodName := ⟨RX3, "hangs", "(III)V"⟩
def dkwX3_hangs_2 : List UInt8 := [180, 0, 29, 27, 29, 79, 177]
abbrev dktX3_hangs_2 : List UInt8 := dkwX3_hangs_2 ++ []
def dkwX3_hangs_1 : List UInt8 := [167, 0, 30, 42, 180, 0, 26, 27, 46, 28, 160, 0, 13, 42, 180, 0, 26, 27, 29, 79, 167, 0, 10, 42]
abbrev dktX3_hangs_1 : List UInt8 := dkwX3_hangs_1 ++ dktX3_hangs_2
def dkwX3_hangs_0 : List UInt8 := [29, 2, 159, 0, 10, 42, 180, 0, 32, 29, 27, 79, 27, 2, 160, 0, 11, 42, 29, 181, 0, 39]
abbrev dktX3_hangs_0 : List UInt8 := dkwX3_hangs_0 ++ dktX3_hangs_1
theorem dksX3_hangs_0 : cX3_hangs.data.toList.drop 0 = dktX3_hangs_0 := by decide +kernel
theorem dksX3_hangs_1 : cX3_hangs.data.toList.drop 22 = dktX3_hangs_1 := dk_seg dksX3_hangs_0 22 rfl rfl
theorem dksX3_hangs_2 : cX3_hangs.data.toList.drop 46 = dktX3_hangs_2 := dk_seg dksX3_hangs_1 24 rfl rfl
theorem dX3_hangs_0 : decode cX3_hangs 0 = .ok (.iload_n 3, 1) := dk_29 (dk_at dksX3_hangs_0 0 rfl rfl)
theorem dX3_hangs_1 : decode cX3_hangs 1 = .ok (.iconst (-1), 1) := dk_2 (dk_at dksX3_hangs_0 1 rfl rfl)
theorem dX3_hangs_2 : decode cX3_hangs 2 = .ok (.if_icmp .eq 10, 3) := dk_159 0 10 (dk_at dksX3_hangs_0 2 rfl rfl)
theorem dX3_hangs_5 : decode cX3_hangs 5 = .ok (.aload_n 0, 1) := dk_42 (dk_at dksX3_hangs_0 5 rfl rfl)
theorem dX3_hangs_6 : decode cX3_hangs 6 = .ok (.getfield 32, 3) := dk_180 0 32 (dk_at dksX3_hangs_0 6 rfl rfl)
theorem dX3_hangs_9 : decode cX3_hangs 9 = .ok (.iload_n 3, 1) := dk_29 (dk_at dksX3_hangs_0 9 rfl rfl)
theorem dX3_hangs_10 : decode cX3_hangs 10 = .ok (.iload_n 1, 1) := dk_27 (dk_at dksX3_hangs_0 10 rfl rfl)
theorem dX3_hangs_11 : decode cX3_hangs 11 = .ok (.iastore, 1) := dk_79 (dk_at dksX3_hangs_0 11 rfl rfl)
theorem dX3_hangs_12 : decode cX3_hangs 12 = .ok (.iload_n 1, 1) := dk_27 (dk_at dksX3_hangs_0 12 rfl rfl)
theorem dX3_hangs_13 : decode cX3_hangs 13 = .ok (.iconst (-1), 1) := dk_2 (dk_at dksX3_hangs_0 13 rfl rfl)
theorem dX3_hangs_14 : decode cX3_hangs 14 = .ok (.if_icmp .ne 11, 3) := dk_160 0 11 (dk_at dksX3_hangs_0 14 rfl rfl)
theorem dX3_hangs_17 : decode cX3_hangs 17 = .ok (.aload_n 0, 1) := dk_42 (dk_at dksX3_hangs_0 17 rfl rfl)
theorem dX3_hangs_18 : decode cX3_hangs 18 = .ok (.iload_n 3, 1) := dk_29 (dk_at dksX3_hangs_0 18 rfl rfl)
theorem dX3_hangs_19 : decode cX3_hangs 19 = .ok (.putfield 39, 3) := dk_181 0 39 (dk_at dksX3_hangs_0 19 rfl rfl)
theorem dX3_hangs_22 : decode cX3_hangs 22 = .ok (.goto 30, 3) := dk_167 0 30 (dk_at dksX3_hangs_1 0 rfl rfl)
theorem dX3_hangs_25 : decode cX3_hangs 25 = .ok (.aload_n 0, 1) := dk_42 (dk_at dksX3_hangs_1 3 rfl rfl)
theorem dX3_hangs_26 : decode cX3_hangs 26 = .ok (.getfield 26, 3) := dk_180 0 26 (dk_at dksX3_hangs_1 4 rfl rfl)
theorem dX3_hangs_29 : decode cX3_hangs 29 = .ok (.iload_n 1, 1) := dk_27 (dk_at dksX3_hangs_1 7 rfl rfl)
theorem dX3_hangs_30 : decode cX3_hangs 30 = .ok (.iaload, 1) := dk_46 (dk_at dksX3_hangs_1 8 rfl rfl)
theorem dX3_hangs_31 : decode cX3_hangs 31 = .ok (.iload_n 2, 1) := dk_28 (dk_at dksX3_hangs_1 9 rfl rfl)
theorem dX3_hangs_32 : decode cX3_hangs 32 = .ok (.if_icmp .ne 13, 3) := dk_160 0 13 (dk_at dksX3_hangs_1 10 rfl rfl)
theorem dX3_hangs_35 : decode cX3_hangs 35 = .ok (.aload_n 0, 1) := dk_42 (dk_at dksX3_hangs_1 13 rfl rfl)
theorem dX3_hangs_36 : decode cX3_hangs 36 = .ok (.getfield 26, 3) := dk_180 0 26 (dk_at dksX3_hangs_1 14 rfl rfl)
theorem dX3_hangs_39 : decode cX3_hangs 39 = .ok (.iload_n 1, 1) := dk_27 (dk_at dksX3_hangs_1 17 rfl rfl)
theorem dX3_hangs_40 : decode cX3_hangs 40 = .ok (.iload_n 3, 1) := dk_29 (dk_at dksX3_hangs_1 18 rfl rfl)
theorem dX3_hangs_41 : decode cX3_hangs 41 = .ok (.iastore, 1) := dk_79 (dk_at dksX3_hangs_1 19 rfl rfl)
theorem dX3_hangs_42 : decode cX3_hangs 42 = .ok (.goto 10, 3) := dk_167 0 10 (dk_at dksX3_hangs_1 20 rfl rfl)
theorem dX3_hangs_45 : decode cX3_hangs 45 = .ok (.aload_n 0, 1) := dk_42 (dk_at dksX3_hangs_1 23 rfl rfl)
theorem dX3_hangs_46 : decode cX3_hangs 46 = .ok (.getfield 29, 3) := dk_180 0 29 (dk_at dksX3_hangs_2 0 rfl rfl)
theorem dX3_hangs_49 : decode cX3_hangs 49 = .ok (.iload_n 1, 1) := dk_27 (dk_at dksX3_hangs_2 3 rfl rfl)
theorem dX3_hangs_50 : decode cX3_hangs 50 = .ok (.iload_n 3, 1) := dk_29 (dk_at dksX3_hangs_2 4 rfl rfl)
theorem dX3_hangs_51 : decode cX3_hangs 51 = .ok (.iastore, 1) := dk_79 (dk_at dksX3_hangs_2 5 rfl rfl)
theorem dX3_hangs_52 : decode cX3_hangs 52 = .ok (.return_, 1) := dk_177 (dk_at dksX3_hangs_2 6 rfl rfl)
abbrev cX3_remove : ByteArray := prog_10_method_19_code
def yX3_remove : MethodName := ⟨RX3, "remove", "(I)I"⟩
def dkwX3_remove_1 : List UInt8 := [182, 0, 190, 172]
abbrev dktX3_remove_1 : List UInt8 := dkwX3_remove_1 ++ []
def dkwX3_remove_0 : List UInt8 := [42, 3, 181, 0, 1, 42, 27, 182, 0, 206, 153, 0, 11, 42, 27, 182, 0, 209, 167, 0, 8, 42, 4]
abbrev dktX3_remove_0 : List UInt8 := dkwX3_remove_0 ++ dktX3_remove_1
theorem dksX3_remove_0 : cX3_remove.data.toList.drop 0 = dktX3_remove_0 := by decide +kernel
theorem dksX3_remove_1 : cX3_remove.data.toList.drop 23 = dktX3_remove_1 := dk_seg dksX3_remove_0 23 rfl rfl
theorem dX3_remove_0 : decode cX3_remove 0 = .ok (.aload_n 0, 1) := dk_42 (dk_at dksX3_remove_0 0 rfl rfl)
theorem dX3_remove_1 : decode cX3_remove 1 = .ok (.iconst 0, 1) := dk_3 (dk_at dksX3_remove_0 1 rfl rfl)
theorem dX3_remove_2 : decode cX3_remove 2 = .ok (.putfield 1, 3) := dk_181 0 1 (dk_at dksX3_remove_0 2 rfl rfl)
theorem dX3_remove_5 : decode cX3_remove 5 = .ok (.aload_n 0, 1) := dk_42 (dk_at dksX3_remove_0 5 rfl rfl)
theorem dX3_remove_6 : decode cX3_remove 6 = .ok (.iload_n 1, 1) := dk_27 (dk_at dksX3_remove_0 6 rfl rfl)
theorem dX3_remove_7 : decode cX3_remove 7 = .ok (.invokevirtual 206, 3) := dk_182 0 206 (dk_at dksX3_remove_0 7 rfl rfl)
theorem dX3_remove_10 : decode cX3_remove 10 = .ok (.ifCond .eq 11, 3) := dk_153 0 11 (dk_at dksX3_remove_0 10 rfl rfl)
theorem dX3_remove_13 : decode cX3_remove 13 = .ok (.aload_n 0, 1) := dk_42 (dk_at dksX3_remove_0 13 rfl rfl)
theorem dX3_remove_14 : decode cX3_remove 14 = .ok (.iload_n 1, 1) := dk_27 (dk_at dksX3_remove_0 14 rfl rfl)
theorem dX3_remove_15 : decode cX3_remove 15 = .ok (.invokevirtual 209, 3) := dk_182 0 209 (dk_at dksX3_remove_0 15 rfl rfl)
theorem dX3_remove_18 : decode cX3_remove 18 = .ok (.goto 8, 3) := dk_167 0 8 (dk_at dksX3_remove_0 18 rfl rfl)
theorem dX3_remove_21 : decode cX3_remove 21 = .ok (.aload_n 0, 1) := dk_42 (dk_at dksX3_remove_0 21 rfl rfl)
theorem dX3_remove_22 : decode cX3_remove 22 = .ok (.iconst 1, 1) := dk_4 (dk_at dksX3_remove_0 22 rfl rfl)
theorem dX3_remove_23 : decode cX3_remove 23 = .ok (.invokevirtual 190, 3) := dk_182 0 190 (dk_at dksX3_remove_1 0 rfl rfl)
theorem dX3_remove_26 : decode cX3_remove 26 = .ok (.ireturn, 1) := dk_172 (dk_at dksX3_remove_1 3 rfl rfl)
abbrev cX3_isLive : ByteArray := prog_10_method_6_code
def yX3_isLive : MethodName := ⟨RX3, "isLive", "(I)Z"⟩
def dkwX3_isLive_0 : List UInt8 := [42, 27, 182, 0, 167, 153, 0, 16, 42, 180, 0, 23, 27, 46, 154, 0, 7, 4, 167, 0, 4, 3, 172]
abbrev dktX3_isLive_0 : List UInt8 := dkwX3_isLive_0 ++ []
theorem dksX3_isLive_0 : cX3_isLive.data.toList.drop 0 = dktX3_isLive_0 := by decide +kernel
theorem dX3_isLive_0 : decode cX3_isLive 0 = .ok (.aload_n 0, 1) := dk_42 (dk_at dksX3_isLive_0 0 rfl rfl)
theorem dX3_isLive_1 : decode cX3_isLive 1 = .ok (.iload_n 1, 1) := dk_27 (dk_at dksX3_isLive_0 1 rfl rfl)
theorem dX3_isLive_2 : decode cX3_isLive 2 = .ok (.invokevirtual 167, 3) := dk_182 0 167 (dk_at dksX3_isLive_0 2 rfl rfl)
theorem dX3_isLive_5 : decode cX3_isLive 5 = .ok (.ifCond .eq 16, 3) := dk_153 0 16 (dk_at dksX3_isLive_0 5 rfl rfl)
theorem dX3_isLive_8 : decode cX3_isLive 8 = .ok (.aload_n 0, 1) := dk_42 (dk_at dksX3_isLive_0 8 rfl rfl)
theorem dX3_isLive_9 : decode cX3_isLive 9 = .ok (.getfield 23, 3) := dk_180 0 23 (dk_at dksX3_isLive_0 9 rfl rfl)
theorem dX3_isLive_12 : decode cX3_isLive 12 = .ok (.iload_n 1, 1) := dk_27 (dk_at dksX3_isLive_0 12 rfl rfl)
theorem dX3_isLive_13 : decode cX3_isLive 13 = .ok (.iaload, 1) := dk_46 (dk_at dksX3_isLive_0 13 rfl rfl)
theorem dX3_isLive_14 : decode cX3_isLive 14 = .ok (.ifCond .ne 7, 3) := dk_154 0 7 (dk_at dksX3_isLive_0 14 rfl rfl)
theorem dX3_isLive_17 : decode cX3_isLive 17 = .ok (.iconst 1, 1) := dk_4 (dk_at dksX3_isLive_0 17 rfl rfl)
theorem dX3_isLive_18 : decode cX3_isLive 18 = .ok (.goto 4, 3) := dk_167 0 4 (dk_at dksX3_isLive_0 18 rfl rfl)
theorem dX3_isLive_21 : decode cX3_isLive 21 = .ok (.iconst 0, 1) := dk_3 (dk_at dksX3_isLive_0 21 rfl rfl)
theorem dX3_isLive_22 : decode cX3_isLive 22 = .ok (.ireturn, 1) := dk_172 (dk_at dksX3_isLive_0 22 rfl rfl)
abbrev cX3_isInserted : ByteArray := prog_10_method_5_code
def yX3_isInserted : MethodName := ⟨RX3, "isInserted", "(I)Z"⟩
def dkwX3_isInserted_0 : List UInt8 := [27, 3, 42, 180, 0, 42, 4, 100, 184, 0, 163, 172]
abbrev dktX3_isInserted_0 : List UInt8 := dkwX3_isInserted_0 ++ []
theorem dksX3_isInserted_0 : cX3_isInserted.data.toList.drop 0 = dktX3_isInserted_0 := by decide +kernel
theorem dX3_isInserted_0 : decode cX3_isInserted 0 = .ok (.iload_n 1, 1) := dk_27 (dk_at dksX3_isInserted_0 0 rfl rfl)
theorem dX3_isInserted_1 : decode cX3_isInserted 1 = .ok (.iconst 0, 1) := dk_3 (dk_at dksX3_isInserted_0 1 rfl rfl)
theorem dX3_isInserted_2 : decode cX3_isInserted 2 = .ok (.aload_n 0, 1) := dk_42 (dk_at dksX3_isInserted_0 2 rfl rfl)
theorem dX3_isInserted_3 : decode cX3_isInserted 3 = .ok (.getfield 42, 3) := dk_180 0 42 (dk_at dksX3_isInserted_0 3 rfl rfl)
theorem dX3_isInserted_6 : decode cX3_isInserted 6 = .ok (.iconst 1, 1) := dk_4 (dk_at dksX3_isInserted_0 6 rfl rfl)
theorem dX3_isInserted_7 : decode cX3_isInserted 7 = .ok (.isub, 1) := dk_100 (dk_at dksX3_isInserted_0 7 rfl rfl)
theorem dX3_isInserted_8 : decode cX3_isInserted 8 = .ok (.invokestatic 163, 3) := dk_184 0 163 (dk_at dksX3_isInserted_0 8 rfl rfl)
theorem dX3_isInserted_11 : decode cX3_isInserted 11 = .ok (.ireturn, 1) := dk_172 (dk_at dksX3_isInserted_0 11 rfl rfl)
abbrev cX3_goes : ByteArray := prog_10_method_18_code
def yX3_goes : MethodName := ⟨RX3, "goes", "(I)I"⟩
def dkwX3_goes_1 : List UInt8 := [42, 180, 0, 51, 42, 180, 0, 45, 104, 164, 0, 7, 42, 182, 0, 194, 42, 182, 0, 202, 172]
abbrev dktX3_goes_1 : List UInt8 := dkwX3_goes_1 ++ []
def dkwX3_goes_0 : List UInt8 := [42, 180, 0, 23, 27, 4, 79, 42, 89, 180, 0, 48, 4, 96, 181, 0, 48, 16, 100, 42, 180, 0, 48, 104]
abbrev dktX3_goes_0 : List UInt8 := dkwX3_goes_0 ++ dktX3_goes_1
theorem dksX3_goes_0 : cX3_goes.data.toList.drop 0 = dktX3_goes_0 := by decide +kernel
theorem dksX3_goes_1 : cX3_goes.data.toList.drop 24 = dktX3_goes_1 := dk_seg dksX3_goes_0 24 rfl rfl
theorem dX3_goes_0 : decode cX3_goes 0 = .ok (.aload_n 0, 1) := dk_42 (dk_at dksX3_goes_0 0 rfl rfl)
theorem dX3_goes_1 : decode cX3_goes 1 = .ok (.getfield 23, 3) := dk_180 0 23 (dk_at dksX3_goes_0 1 rfl rfl)
theorem dX3_goes_4 : decode cX3_goes 4 = .ok (.iload_n 1, 1) := dk_27 (dk_at dksX3_goes_0 4 rfl rfl)
theorem dX3_goes_5 : decode cX3_goes 5 = .ok (.iconst 1, 1) := dk_4 (dk_at dksX3_goes_0 5 rfl rfl)
theorem dX3_goes_6 : decode cX3_goes 6 = .ok (.iastore, 1) := dk_79 (dk_at dksX3_goes_0 6 rfl rfl)
theorem dX3_goes_7 : decode cX3_goes 7 = .ok (.aload_n 0, 1) := dk_42 (dk_at dksX3_goes_0 7 rfl rfl)
theorem dX3_goes_8 : decode cX3_goes 8 = .ok (.dup, 1) := dk_89 (dk_at dksX3_goes_0 8 rfl rfl)
theorem dX3_goes_9 : decode cX3_goes 9 = .ok (.getfield 48, 3) := dk_180 0 48 (dk_at dksX3_goes_0 9 rfl rfl)
theorem dX3_goes_12 : decode cX3_goes 12 = .ok (.iconst 1, 1) := dk_4 (dk_at dksX3_goes_0 12 rfl rfl)
theorem dX3_goes_13 : decode cX3_goes 13 = .ok (.iadd, 1) := dk_96 (dk_at dksX3_goes_0 13 rfl rfl)
theorem dX3_goes_14 : decode cX3_goes 14 = .ok (.putfield 48, 3) := dk_181 0 48 (dk_at dksX3_goes_0 14 rfl rfl)
theorem dX3_goes_17 : decode cX3_goes 17 = .ok (.bipush 100, 2) := dk_16 100 (dk_at dksX3_goes_0 17 rfl rfl)
theorem dX3_goes_19 : decode cX3_goes 19 = .ok (.aload_n 0, 1) := dk_42 (dk_at dksX3_goes_0 19 rfl rfl)
theorem dX3_goes_20 : decode cX3_goes 20 = .ok (.getfield 48, 3) := dk_180 0 48 (dk_at dksX3_goes_0 20 rfl rfl)
theorem dX3_goes_23 : decode cX3_goes 23 = .ok (.imul, 1) := dk_104 (dk_at dksX3_goes_0 23 rfl rfl)
theorem dX3_goes_24 : decode cX3_goes 24 = .ok (.aload_n 0, 1) := dk_42 (dk_at dksX3_goes_1 0 rfl rfl)
theorem dX3_goes_25 : decode cX3_goes 25 = .ok (.getfield 51, 3) := dk_180 0 51 (dk_at dksX3_goes_1 1 rfl rfl)
theorem dX3_goes_28 : decode cX3_goes 28 = .ok (.aload_n 0, 1) := dk_42 (dk_at dksX3_goes_1 4 rfl rfl)
theorem dX3_goes_29 : decode cX3_goes 29 = .ok (.getfield 45, 3) := dk_180 0 45 (dk_at dksX3_goes_1 5 rfl rfl)
theorem dX3_goes_32 : decode cX3_goes 32 = .ok (.imul, 1) := dk_104 (dk_at dksX3_goes_1 8 rfl rfl)
theorem dX3_goes_33 : decode cX3_goes 33 = .ok (.if_icmp .le 7, 3) := dk_164 0 7 (dk_at dksX3_goes_1 9 rfl rfl)
theorem dX3_goes_36 : decode cX3_goes 36 = .ok (.aload_n 0, 1) := dk_42 (dk_at dksX3_goes_1 12 rfl rfl)
theorem dX3_goes_37 : decode cX3_goes 37 = .ok (.invokevirtual 194, 3) := dk_182 0 194 (dk_at dksX3_goes_1 13 rfl rfl)
theorem dX3_goes_40 : decode cX3_goes 40 = .ok (.aload_n 0, 1) := dk_42 (dk_at dksX3_goes_1 16 rfl rfl)
theorem dX3_goes_41 : decode cX3_goes 41 = .ok (.invokevirtual 202, 3) := dk_182 0 202 (dk_at dksX3_goes_1 17 rfl rfl)
theorem dX3_goes_44 : decode cX3_goes 44 = .ok (.ireturn, 1) := dk_172 (dk_at dksX3_goes_1 20 rfl rfl)
abbrev cX3_live : ByteArray := prog_10_method_8_code
def yX3_live : MethodName := ⟨RX3, "live", "()I"⟩
def dkwX3_live_0 : List UInt8 := [42, 180, 0, 45, 42, 180, 0, 48, 100, 172]
abbrev dktX3_live_0 : List UInt8 := dkwX3_live_0 ++ []
theorem dksX3_live_0 : cX3_live.data.toList.drop 0 = dktX3_live_0 := by decide +kernel
theorem dX3_live_0 : decode cX3_live 0 = .ok (.aload_n 0, 1) := dk_42 (dk_at dksX3_live_0 0 rfl rfl)
theorem dX3_live_1 : decode cX3_live 1 = .ok (.getfield 45, 3) := dk_180 0 45 (dk_at dksX3_live_0 1 rfl rfl)
theorem dX3_live_4 : decode cX3_live 4 = .ok (.aload_n 0, 1) := dk_42 (dk_at dksX3_live_0 4 rfl rfl)
theorem dX3_live_5 : decode cX3_live 5 = .ok (.getfield 48, 3) := dk_180 0 48 (dk_at dksX3_live_0 5 rfl rfl)
theorem dX3_live_8 : decode cX3_live 8 = .ok (.isub, 1) := dk_100 (dk_at dksX3_live_0 8 rfl rfl)
theorem dX3_live_9 : decode cX3_live 9 = .ok (.ireturn, 1) := dk_172 (dk_at dksX3_live_0 9 rfl rfl)
abbrev cX3_restore : ByteArray := prog_10_method_20_code
def yX3_restore : MethodName := ⟨RX3, "restore", "(I)I"⟩
def dkwX3_restore_2 : List UInt8 := [100, 181, 0, 48, 42, 182, 0, 202, 172]
abbrev dktX3_restore_2 : List UInt8 := dkwX3_restore_2 ++ []
def dkwX3_restore_1 : List UInt8 := [46, 4, 159, 0, 9, 42, 5, 182, 0, 190, 172, 42, 180, 0, 23, 27, 3, 79, 42, 89, 180, 0, 48, 4]
abbrev dktX3_restore_1 : List UInt8 := dkwX3_restore_1 ++ dktX3_restore_2
def dkwX3_restore_0 : List UInt8 := [42, 3, 181, 0, 1, 42, 27, 182, 0, 167, 154, 0, 9, 42, 4, 182, 0, 190, 172, 42, 180, 0, 23, 27]
abbrev dktX3_restore_0 : List UInt8 := dkwX3_restore_0 ++ dktX3_restore_1
theorem dksX3_restore_0 : cX3_restore.data.toList.drop 0 = dktX3_restore_0 := by decide +kernel
theorem dksX3_restore_1 : cX3_restore.data.toList.drop 24 = dktX3_restore_1 := dk_seg dksX3_restore_0 24 rfl rfl
theorem dksX3_restore_2 : cX3_restore.data.toList.drop 48 = dktX3_restore_2 := dk_seg dksX3_restore_1 24 rfl rfl
theorem dX3_restore_0 : decode cX3_restore 0 = .ok (.aload_n 0, 1) := dk_42 (dk_at dksX3_restore_0 0 rfl rfl)
theorem dX3_restore_1 : decode cX3_restore 1 = .ok (.iconst 0, 1) := dk_3 (dk_at dksX3_restore_0 1 rfl rfl)
theorem dX3_restore_2 : decode cX3_restore 2 = .ok (.putfield 1, 3) := dk_181 0 1 (dk_at dksX3_restore_0 2 rfl rfl)
theorem dX3_restore_5 : decode cX3_restore 5 = .ok (.aload_n 0, 1) := dk_42 (dk_at dksX3_restore_0 5 rfl rfl)
theorem dX3_restore_6 : decode cX3_restore 6 = .ok (.iload_n 1, 1) := dk_27 (dk_at dksX3_restore_0 6 rfl rfl)
theorem dX3_restore_7 : decode cX3_restore 7 = .ok (.invokevirtual 167, 3) := dk_182 0 167 (dk_at dksX3_restore_0 7 rfl rfl)
theorem dX3_restore_10 : decode cX3_restore 10 = .ok (.ifCond .ne 9, 3) := dk_154 0 9 (dk_at dksX3_restore_0 10 rfl rfl)
theorem dX3_restore_13 : decode cX3_restore 13 = .ok (.aload_n 0, 1) := dk_42 (dk_at dksX3_restore_0 13 rfl rfl)
theorem dX3_restore_14 : decode cX3_restore 14 = .ok (.iconst 1, 1) := dk_4 (dk_at dksX3_restore_0 14 rfl rfl)
theorem dX3_restore_15 : decode cX3_restore 15 = .ok (.invokevirtual 190, 3) := dk_182 0 190 (dk_at dksX3_restore_0 15 rfl rfl)
theorem dX3_restore_18 : decode cX3_restore 18 = .ok (.ireturn, 1) := dk_172 (dk_at dksX3_restore_0 18 rfl rfl)
theorem dX3_restore_19 : decode cX3_restore 19 = .ok (.aload_n 0, 1) := dk_42 (dk_at dksX3_restore_0 19 rfl rfl)
theorem dX3_restore_20 : decode cX3_restore 20 = .ok (.getfield 23, 3) := dk_180 0 23 (dk_at dksX3_restore_0 20 rfl rfl)
theorem dX3_restore_23 : decode cX3_restore 23 = .ok (.iload_n 1, 1) := dk_27 (dk_at dksX3_restore_0 23 rfl rfl)
theorem dX3_restore_24 : decode cX3_restore 24 = .ok (.iaload, 1) := dk_46 (dk_at dksX3_restore_1 0 rfl rfl)
theorem dX3_restore_25 : decode cX3_restore 25 = .ok (.iconst 1, 1) := dk_4 (dk_at dksX3_restore_1 1 rfl rfl)
theorem dX3_restore_26 : decode cX3_restore 26 = .ok (.if_icmp .eq 9, 3) := dk_159 0 9 (dk_at dksX3_restore_1 2 rfl rfl)
theorem dX3_restore_29 : decode cX3_restore 29 = .ok (.aload_n 0, 1) := dk_42 (dk_at dksX3_restore_1 5 rfl rfl)
theorem dX3_restore_30 : decode cX3_restore 30 = .ok (.iconst 2, 1) := dk_5 (dk_at dksX3_restore_1 6 rfl rfl)
theorem dX3_restore_31 : decode cX3_restore 31 = .ok (.invokevirtual 190, 3) := dk_182 0 190 (dk_at dksX3_restore_1 7 rfl rfl)
theorem dX3_restore_34 : decode cX3_restore 34 = .ok (.ireturn, 1) := dk_172 (dk_at dksX3_restore_1 10 rfl rfl)
theorem dX3_restore_35 : decode cX3_restore 35 = .ok (.aload_n 0, 1) := dk_42 (dk_at dksX3_restore_1 11 rfl rfl)
theorem dX3_restore_36 : decode cX3_restore 36 = .ok (.getfield 23, 3) := dk_180 0 23 (dk_at dksX3_restore_1 12 rfl rfl)
theorem dX3_restore_39 : decode cX3_restore 39 = .ok (.iload_n 1, 1) := dk_27 (dk_at dksX3_restore_1 15 rfl rfl)
theorem dX3_restore_40 : decode cX3_restore 40 = .ok (.iconst 0, 1) := dk_3 (dk_at dksX3_restore_1 16 rfl rfl)
theorem dX3_restore_41 : decode cX3_restore 41 = .ok (.iastore, 1) := dk_79 (dk_at dksX3_restore_1 17 rfl rfl)
theorem dX3_restore_42 : decode cX3_restore 42 = .ok (.aload_n 0, 1) := dk_42 (dk_at dksX3_restore_1 18 rfl rfl)
theorem dX3_restore_43 : decode cX3_restore 43 = .ok (.dup, 1) := dk_89 (dk_at dksX3_restore_1 19 rfl rfl)
theorem dX3_restore_44 : decode cX3_restore 44 = .ok (.getfield 48, 3) := dk_180 0 48 (dk_at dksX3_restore_1 20 rfl rfl)
theorem dX3_restore_47 : decode cX3_restore 47 = .ok (.iconst 1, 1) := dk_4 (dk_at dksX3_restore_1 23 rfl rfl)
theorem dX3_restore_48 : decode cX3_restore 48 = .ok (.isub, 1) := dk_100 (dk_at dksX3_restore_2 0 rfl rfl)
theorem dX3_restore_49 : decode cX3_restore 49 = .ok (.putfield 48, 3) := dk_181 0 48 (dk_at dksX3_restore_2 1 rfl rfl)
theorem dX3_restore_52 : decode cX3_restore 52 = .ok (.aload_n 0, 1) := dk_42 (dk_at dksX3_restore_2 4 rfl rfl)
theorem dX3_restore_53 : decode cX3_restore 53 = .ok (.invokevirtual 202, 3) := dk_182 0 202 (dk_at dksX3_restore_2 5 rfl rfl)
theorem dX3_restore_56 : decode cX3_restore 56 = .ok (.ireturn, 1) := dk_172 (dk_at dksX3_restore_2 8 rfl rfl)
abbrev cX3_rebuild : ByteArray := prog_10_method_21_code
def yX3_rebuild : MethodName := ⟨RX3, "rebuild", "()I"⟩
def dkwX3_rebuild_0 : List UInt8 := [42, 180, 0, 48, 60, 42, 182, 0, 194, 27, 172]
abbrev dktX3_rebuild_0 : List UInt8 := dkwX3_rebuild_0 ++ []
theorem dksX3_rebuild_0 : cX3_rebuild.data.toList.drop 0 = dktX3_rebuild_0 := by decide +kernel
theorem dX3_rebuild_0 : decode cX3_rebuild 0 = .ok (.aload_n 0, 1) := dk_42 (dk_at dksX3_rebuild_0 0 rfl rfl)
theorem dX3_rebuild_1 : decode cX3_rebuild 1 = .ok (.getfield 48, 3) := dk_180 0 48 (dk_at dksX3_rebuild_0 1 rfl rfl)
theorem dX3_rebuild_4 : decode cX3_rebuild 4 = .ok (.istore_n 1, 1) := dk_60 (dk_at dksX3_rebuild_0 4 rfl rfl)
theorem dX3_rebuild_5 : decode cX3_rebuild 5 = .ok (.aload_n 0, 1) := dk_42 (dk_at dksX3_rebuild_0 5 rfl rfl)
theorem dX3_rebuild_6 : decode cX3_rebuild 6 = .ok (.invokevirtual 194, 3) := dk_182 0 194 (dk_at dksX3_rebuild_0 6 rfl rfl)
theorem dX3_rebuild_9 : decode cX3_rebuild 9 = .ok (.iload_n 1, 1) := dk_27 (dk_at dksX3_rebuild_0 9 rfl rfl)
theorem dX3_rebuild_10 : decode cX3_rebuild 10 = .ok (.ireturn, 1) := dk_172 (dk_at dksX3_rebuild_0 10 rfl rfl)
abbrev cX3_setRebuildPercentage : ByteArray := prog_10_method_22_code
def yX3_setRebuildPercentage : MethodName := ⟨RX3, "setRebuildPercentage", "(I)I"⟩
def dkwX3_setRebuildPercentage_1 : List UInt8 := [180, 0, 51, 61, 42, 27, 181, 0, 51, 28, 172]
abbrev dktX3_setRebuildPercentage_1 : List UInt8 := dkwX3_setRebuildPercentage_1 ++ []
def dkwX3_setRebuildPercentage_0 : List UInt8 := [42, 3, 181, 0, 1, 27, 16, 10, 16, 100, 184, 0, 163, 154, 0, 9, 42, 4, 182, 0, 190, 172, 42]
abbrev dktX3_setRebuildPercentage_0 : List UInt8 := dkwX3_setRebuildPercentage_0 ++ dktX3_setRebuildPercentage_1
theorem dksX3_setRebuildPercentage_0 : cX3_setRebuildPercentage.data.toList.drop 0 = dktX3_setRebuildPercentage_0 := by decide +kernel
theorem dksX3_setRebuildPercentage_1 : cX3_setRebuildPercentage.data.toList.drop 23 = dktX3_setRebuildPercentage_1 := dk_seg dksX3_setRebuildPercentage_0 23 rfl rfl
theorem dX3_setRebuildPercentage_0 : decode cX3_setRebuildPercentage 0 = .ok (.aload_n 0, 1) := dk_42 (dk_at dksX3_setRebuildPercentage_0 0 rfl rfl)
theorem dX3_setRebuildPercentage_1 : decode cX3_setRebuildPercentage 1 = .ok (.iconst 0, 1) := dk_3 (dk_at dksX3_setRebuildPercentage_0 1 rfl rfl)
theorem dX3_setRebuildPercentage_2 : decode cX3_setRebuildPercentage 2 = .ok (.putfield 1, 3) := dk_181 0 1 (dk_at dksX3_setRebuildPercentage_0 2 rfl rfl)
theorem dX3_setRebuildPercentage_5 : decode cX3_setRebuildPercentage 5 = .ok (.iload_n 1, 1) := dk_27 (dk_at dksX3_setRebuildPercentage_0 5 rfl rfl)
theorem dX3_setRebuildPercentage_6 : decode cX3_setRebuildPercentage 6 = .ok (.bipush 10, 2) := dk_16 10 (dk_at dksX3_setRebuildPercentage_0 6 rfl rfl)
theorem dX3_setRebuildPercentage_8 : decode cX3_setRebuildPercentage 8 = .ok (.bipush 100, 2) := dk_16 100 (dk_at dksX3_setRebuildPercentage_0 8 rfl rfl)
theorem dX3_setRebuildPercentage_10 : decode cX3_setRebuildPercentage 10 = .ok (.invokestatic 163, 3) := dk_184 0 163 (dk_at dksX3_setRebuildPercentage_0 10 rfl rfl)
theorem dX3_setRebuildPercentage_13 : decode cX3_setRebuildPercentage 13 = .ok (.ifCond .ne 9, 3) := dk_154 0 9 (dk_at dksX3_setRebuildPercentage_0 13 rfl rfl)
theorem dX3_setRebuildPercentage_16 : decode cX3_setRebuildPercentage 16 = .ok (.aload_n 0, 1) := dk_42 (dk_at dksX3_setRebuildPercentage_0 16 rfl rfl)
theorem dX3_setRebuildPercentage_17 : decode cX3_setRebuildPercentage 17 = .ok (.iconst 1, 1) := dk_4 (dk_at dksX3_setRebuildPercentage_0 17 rfl rfl)
theorem dX3_setRebuildPercentage_18 : decode cX3_setRebuildPercentage 18 = .ok (.invokevirtual 190, 3) := dk_182 0 190 (dk_at dksX3_setRebuildPercentage_0 18 rfl rfl)
theorem dX3_setRebuildPercentage_21 : decode cX3_setRebuildPercentage 21 = .ok (.ireturn, 1) := dk_172 (dk_at dksX3_setRebuildPercentage_0 21 rfl rfl)
theorem dX3_setRebuildPercentage_22 : decode cX3_setRebuildPercentage 22 = .ok (.aload_n 0, 1) := dk_42 (dk_at dksX3_setRebuildPercentage_0 22 rfl rfl)
theorem dX3_setRebuildPercentage_23 : decode cX3_setRebuildPercentage 23 = .ok (.getfield 51, 3) := dk_180 0 51 (dk_at dksX3_setRebuildPercentage_1 0 rfl rfl)
theorem dX3_setRebuildPercentage_26 : decode cX3_setRebuildPercentage 26 = .ok (.istore_n 2, 1) := dk_61 (dk_at dksX3_setRebuildPercentage_1 3 rfl rfl)
theorem dX3_setRebuildPercentage_27 : decode cX3_setRebuildPercentage 27 = .ok (.aload_n 0, 1) := dk_42 (dk_at dksX3_setRebuildPercentage_1 4 rfl rfl)
theorem dX3_setRebuildPercentage_28 : decode cX3_setRebuildPercentage 28 = .ok (.iload_n 1, 1) := dk_27 (dk_at dksX3_setRebuildPercentage_1 5 rfl rfl)
theorem dX3_setRebuildPercentage_29 : decode cX3_setRebuildPercentage 29 = .ok (.putfield 51, 3) := dk_181 0 51 (dk_at dksX3_setRebuildPercentage_1 6 rfl rfl)
theorem dX3_setRebuildPercentage_32 : decode cX3_setRebuildPercentage 32 = .ok (.iload_n 2, 1) := dk_28 (dk_at dksX3_setRebuildPercentage_1 9 rfl rfl)
theorem dX3_setRebuildPercentage_33 : decode cX3_setRebuildPercentage 33 = .ok (.ireturn, 1) := dk_172 (dk_at dksX3_setRebuildPercentage_1 10 rfl rfl)
abbrev cX3_addWeight : ByteArray := prog_10_method_23_code
def yX3_addWeight : MethodName := ⟨RX3, "addWeight", "(III)I"⟩
def dkwX3_addWeight_4 : List UInt8 := [154, 0, 7, 4, 167, 0, 4, 3, 96, 54, 4, 132, 5, 1, 167, 255, 184, 21, 4, 172]
abbrev dktX3_addWeight_4 : List UInt8 := dkwX3_addWeight_4 ++ []
def dkwX3_addWeight_3 : List UInt8 := [167, 0, 34, 42, 180, 0, 20, 21, 5, 92, 46, 29, 96, 79, 21, 4, 42, 180, 0, 23, 21, 5, 46]
abbrev dktX3_addWeight_3 : List UInt8 := dkwX3_addWeight_3 ++ dktX3_addWeight_4
def dkwX3_addWeight_2 : List UInt8 := [21, 5, 46, 5, 159, 0, 52, 42, 180, 0, 13, 21, 5, 46, 27, 28, 184, 0, 163, 154, 0, 6]
abbrev dktX3_addWeight_2 : List UInt8 := dkwX3_addWeight_2 ++ dktX3_addWeight_3
def dkwX3_addWeight_1 : List UInt8 := [4, 182, 0, 190, 172, 3, 54, 4, 3, 54, 5, 21, 5, 42, 180, 0, 42, 162, 0, 69, 42, 180, 0, 23]
abbrev dktX3_addWeight_1 : List UInt8 := dkwX3_addWeight_1 ++ dktX3_addWeight_2
def dkwX3_addWeight_0 : List UInt8 := [42, 3, 181, 0, 1, 27, 28, 163, 0, 16, 29, 17, 252, 24, 17, 3, 232, 184, 0, 163, 154, 0, 9, 42]
abbrev dktX3_addWeight_0 : List UInt8 := dkwX3_addWeight_0 ++ dktX3_addWeight_1
theorem dksX3_addWeight_0 : cX3_addWeight.data.toList.drop 0 = dktX3_addWeight_0 := by decide +kernel
theorem dksX3_addWeight_1 : cX3_addWeight.data.toList.drop 24 = dktX3_addWeight_1 := dk_seg dksX3_addWeight_0 24 rfl rfl
theorem dksX3_addWeight_2 : cX3_addWeight.data.toList.drop 48 = dktX3_addWeight_2 := dk_seg dksX3_addWeight_1 24 rfl rfl
theorem dksX3_addWeight_3 : cX3_addWeight.data.toList.drop 70 = dktX3_addWeight_3 := dk_seg dksX3_addWeight_2 22 rfl rfl
theorem dksX3_addWeight_4 : cX3_addWeight.data.toList.drop 93 = dktX3_addWeight_4 := dk_seg dksX3_addWeight_3 23 rfl rfl
theorem dX3_addWeight_0 : decode cX3_addWeight 0 = .ok (.aload_n 0, 1) := dk_42 (dk_at dksX3_addWeight_0 0 rfl rfl)
theorem dX3_addWeight_1 : decode cX3_addWeight 1 = .ok (.iconst 0, 1) := dk_3 (dk_at dksX3_addWeight_0 1 rfl rfl)
theorem dX3_addWeight_2 : decode cX3_addWeight 2 = .ok (.putfield 1, 3) := dk_181 0 1 (dk_at dksX3_addWeight_0 2 rfl rfl)
theorem dX3_addWeight_5 : decode cX3_addWeight 5 = .ok (.iload_n 1, 1) := dk_27 (dk_at dksX3_addWeight_0 5 rfl rfl)
theorem dX3_addWeight_6 : decode cX3_addWeight 6 = .ok (.iload_n 2, 1) := dk_28 (dk_at dksX3_addWeight_0 6 rfl rfl)
theorem dX3_addWeight_7 : decode cX3_addWeight 7 = .ok (.if_icmp .gt 16, 3) := dk_163 0 16 (dk_at dksX3_addWeight_0 7 rfl rfl)
theorem dX3_addWeight_10 : decode cX3_addWeight 10 = .ok (.iload_n 3, 1) := dk_29 (dk_at dksX3_addWeight_0 10 rfl rfl)
theorem dX3_addWeight_11 : decode cX3_addWeight 11 = .ok (.sipush (-1000), 3) := dk_17 252 24 (dk_at dksX3_addWeight_0 11 rfl rfl)
theorem dX3_addWeight_14 : decode cX3_addWeight 14 = .ok (.sipush 1000, 3) := dk_17 3 232 (dk_at dksX3_addWeight_0 14 rfl rfl)
theorem dX3_addWeight_17 : decode cX3_addWeight 17 = .ok (.invokestatic 163, 3) := dk_184 0 163 (dk_at dksX3_addWeight_0 17 rfl rfl)
theorem dX3_addWeight_20 : decode cX3_addWeight 20 = .ok (.ifCond .ne 9, 3) := dk_154 0 9 (dk_at dksX3_addWeight_0 20 rfl rfl)
theorem dX3_addWeight_23 : decode cX3_addWeight 23 = .ok (.aload_n 0, 1) := dk_42 (dk_at dksX3_addWeight_0 23 rfl rfl)
theorem dX3_addWeight_24 : decode cX3_addWeight 24 = .ok (.iconst 1, 1) := dk_4 (dk_at dksX3_addWeight_1 0 rfl rfl)
theorem dX3_addWeight_25 : decode cX3_addWeight 25 = .ok (.invokevirtual 190, 3) := dk_182 0 190 (dk_at dksX3_addWeight_1 1 rfl rfl)
theorem dX3_addWeight_28 : decode cX3_addWeight 28 = .ok (.ireturn, 1) := dk_172 (dk_at dksX3_addWeight_1 4 rfl rfl)
theorem dX3_addWeight_29 : decode cX3_addWeight 29 = .ok (.iconst 0, 1) := dk_3 (dk_at dksX3_addWeight_1 5 rfl rfl)
theorem dX3_addWeight_30 : decode cX3_addWeight 30 = .ok (.istore 4, 2) := dk_54 4 (dk_at dksX3_addWeight_1 6 rfl rfl)
theorem dX3_addWeight_32 : decode cX3_addWeight 32 = .ok (.iconst 0, 1) := dk_3 (dk_at dksX3_addWeight_1 8 rfl rfl)
theorem dX3_addWeight_33 : decode cX3_addWeight 33 = .ok (.istore 5, 2) := dk_54 5 (dk_at dksX3_addWeight_1 9 rfl rfl)
theorem dX3_addWeight_35 : decode cX3_addWeight 35 = .ok (.iload 5, 2) := dk_21 5 (dk_at dksX3_addWeight_1 11 rfl rfl)
theorem dX3_addWeight_37 : decode cX3_addWeight 37 = .ok (.aload_n 0, 1) := dk_42 (dk_at dksX3_addWeight_1 13 rfl rfl)
theorem dX3_addWeight_38 : decode cX3_addWeight 38 = .ok (.getfield 42, 3) := dk_180 0 42 (dk_at dksX3_addWeight_1 14 rfl rfl)
theorem dX3_addWeight_41 : decode cX3_addWeight 41 = .ok (.if_icmp .ge 69, 3) := dk_162 0 69 (dk_at dksX3_addWeight_1 17 rfl rfl)
theorem dX3_addWeight_44 : decode cX3_addWeight 44 = .ok (.aload_n 0, 1) := dk_42 (dk_at dksX3_addWeight_1 20 rfl rfl)
theorem dX3_addWeight_45 : decode cX3_addWeight 45 = .ok (.getfield 23, 3) := dk_180 0 23 (dk_at dksX3_addWeight_1 21 rfl rfl)
theorem dX3_addWeight_48 : decode cX3_addWeight 48 = .ok (.iload 5, 2) := dk_21 5 (dk_at dksX3_addWeight_2 0 rfl rfl)
theorem dX3_addWeight_50 : decode cX3_addWeight 50 = .ok (.iaload, 1) := dk_46 (dk_at dksX3_addWeight_2 2 rfl rfl)
theorem dX3_addWeight_51 : decode cX3_addWeight 51 = .ok (.iconst 2, 1) := dk_5 (dk_at dksX3_addWeight_2 3 rfl rfl)
theorem dX3_addWeight_52 : decode cX3_addWeight 52 = .ok (.if_icmp .eq 52, 3) := dk_159 0 52 (dk_at dksX3_addWeight_2 4 rfl rfl)
theorem dX3_addWeight_55 : decode cX3_addWeight 55 = .ok (.aload_n 0, 1) := dk_42 (dk_at dksX3_addWeight_2 7 rfl rfl)
theorem dX3_addWeight_56 : decode cX3_addWeight 56 = .ok (.getfield 13, 3) := dk_180 0 13 (dk_at dksX3_addWeight_2 8 rfl rfl)
theorem dX3_addWeight_59 : decode cX3_addWeight 59 = .ok (.iload 5, 2) := dk_21 5 (dk_at dksX3_addWeight_2 11 rfl rfl)
theorem dX3_addWeight_61 : decode cX3_addWeight 61 = .ok (.iaload, 1) := dk_46 (dk_at dksX3_addWeight_2 13 rfl rfl)
theorem dX3_addWeight_62 : decode cX3_addWeight 62 = .ok (.iload_n 1, 1) := dk_27 (dk_at dksX3_addWeight_2 14 rfl rfl)
theorem dX3_addWeight_63 : decode cX3_addWeight 63 = .ok (.iload_n 2, 1) := dk_28 (dk_at dksX3_addWeight_2 15 rfl rfl)
theorem dX3_addWeight_64 : decode cX3_addWeight 64 = .ok (.invokestatic 163, 3) := dk_184 0 163 (dk_at dksX3_addWeight_2 16 rfl rfl)
theorem dX3_addWeight_67 : decode cX3_addWeight 67 = .ok (.ifCond .ne 6, 3) := dk_154 0 6 (dk_at dksX3_addWeight_2 19 rfl rfl)
theorem dX3_addWeight_70 : decode cX3_addWeight 70 = .ok (.goto 34, 3) := dk_167 0 34 (dk_at dksX3_addWeight_3 0 rfl rfl)
theorem dX3_addWeight_73 : decode cX3_addWeight 73 = .ok (.aload_n 0, 1) := dk_42 (dk_at dksX3_addWeight_3 3 rfl rfl)
theorem dX3_addWeight_74 : decode cX3_addWeight 74 = .ok (.getfield 20, 3) := dk_180 0 20 (dk_at dksX3_addWeight_3 4 rfl rfl)
theorem dX3_addWeight_77 : decode cX3_addWeight 77 = .ok (.iload 5, 2) := dk_21 5 (dk_at dksX3_addWeight_3 7 rfl rfl)
theorem dX3_addWeight_79 : decode cX3_addWeight 79 = .ok (.dup2, 1) := dk_92 (dk_at dksX3_addWeight_3 9 rfl rfl)
theorem dX3_addWeight_80 : decode cX3_addWeight 80 = .ok (.iaload, 1) := dk_46 (dk_at dksX3_addWeight_3 10 rfl rfl)
theorem dX3_addWeight_81 : decode cX3_addWeight 81 = .ok (.iload_n 3, 1) := dk_29 (dk_at dksX3_addWeight_3 11 rfl rfl)
theorem dX3_addWeight_82 : decode cX3_addWeight 82 = .ok (.iadd, 1) := dk_96 (dk_at dksX3_addWeight_3 12 rfl rfl)
theorem dX3_addWeight_83 : decode cX3_addWeight 83 = .ok (.iastore, 1) := dk_79 (dk_at dksX3_addWeight_3 13 rfl rfl)
theorem dX3_addWeight_84 : decode cX3_addWeight 84 = .ok (.iload 4, 2) := dk_21 4 (dk_at dksX3_addWeight_3 14 rfl rfl)
theorem dX3_addWeight_86 : decode cX3_addWeight 86 = .ok (.aload_n 0, 1) := dk_42 (dk_at dksX3_addWeight_3 16 rfl rfl)
theorem dX3_addWeight_87 : decode cX3_addWeight 87 = .ok (.getfield 23, 3) := dk_180 0 23 (dk_at dksX3_addWeight_3 17 rfl rfl)
theorem dX3_addWeight_90 : decode cX3_addWeight 90 = .ok (.iload 5, 2) := dk_21 5 (dk_at dksX3_addWeight_3 20 rfl rfl)
theorem dX3_addWeight_92 : decode cX3_addWeight 92 = .ok (.iaload, 1) := dk_46 (dk_at dksX3_addWeight_3 22 rfl rfl)
theorem dX3_addWeight_93 : decode cX3_addWeight 93 = .ok (.ifCond .ne 7, 3) := dk_154 0 7 (dk_at dksX3_addWeight_4 0 rfl rfl)
theorem dX3_addWeight_96 : decode cX3_addWeight 96 = .ok (.iconst 1, 1) := dk_4 (dk_at dksX3_addWeight_4 3 rfl rfl)
theorem dX3_addWeight_97 : decode cX3_addWeight 97 = .ok (.goto 4, 3) := dk_167 0 4 (dk_at dksX3_addWeight_4 4 rfl rfl)
theorem dX3_addWeight_100 : decode cX3_addWeight 100 = .ok (.iconst 0, 1) := dk_3 (dk_at dksX3_addWeight_4 7 rfl rfl)
theorem dX3_addWeight_101 : decode cX3_addWeight 101 = .ok (.iadd, 1) := dk_96 (dk_at dksX3_addWeight_4 8 rfl rfl)
theorem dX3_addWeight_102 : decode cX3_addWeight 102 = .ok (.istore 4, 2) := dk_54 4 (dk_at dksX3_addWeight_4 9 rfl rfl)
theorem dX3_addWeight_104 : decode cX3_addWeight 104 = .ok (.iinc 5 1, 3) := dk_132 5 1 (dk_at dksX3_addWeight_4 11 rfl rfl)
theorem dX3_addWeight_107 : decode cX3_addWeight 107 = .ok (.goto (-72), 3) := dk_167 255 184 (dk_at dksX3_addWeight_4 14 rfl rfl)
theorem dX3_addWeight_110 : decode cX3_addWeight 110 = .ok (.iload 4, 2) := dk_21 4 (dk_at dksX3_addWeight_4 17 rfl rfl)
theorem dX3_addWeight_112 : decode cX3_addWeight 112 = .ok (.ireturn, 1) := dk_172 (dk_at dksX3_addWeight_4 19 rfl rfl)
abbrev cX3_size : ByteArray := prog_10_method_24_code
def yX3_size : MethodName := ⟨RX3, "size", "()I"⟩
theorem dX3_size_0 : decode cX3_size 0 = .ok (.aload_n 0, 1) := by decide +kernel
theorem dX3_size_1 : decode cX3_size 1 = .ok (.invokevirtual 202, 3) := by decide +kernel
theorem dX3_size_4 : decode cX3_size 4 = .ok (.ireturn, 1) := by decide +kernel
abbrev cX3_nodeCount : ByteArray := prog_10_method_25_code
def yX3_nodeCount : MethodName := ⟨RX3, "nodeCount", "()I"⟩
theorem dX3_nodeCount_0 : decode cX3_nodeCount 0 = .ok (.aload_n 0, 1) := by decide +kernel
theorem dX3_nodeCount_1 : decode cX3_nodeCount 1 = .ok (.getfield 45, 3) := by decide +kernel
theorem dX3_nodeCount_4 : decode cX3_nodeCount 4 = .ok (.ireturn, 1) := by decide +kernel
abbrev cX3_height : ByteArray := prog_10_method_27_code
def yX3_height : MethodName := ⟨RX3, "height", "()I"⟩
def dkwX3_height_0 : List UInt8 := [42, 42, 180, 0, 39, 182, 0, 212, 172]
abbrev dktX3_height_0 : List UInt8 := dkwX3_height_0 ++ []
theorem dksX3_height_0 : cX3_height.data.toList.drop 0 = dktX3_height_0 := by decide +kernel
theorem dX3_height_0 : decode cX3_height 0 = .ok (.aload_n 0, 1) := dk_42 (dk_at dksX3_height_0 0 rfl rfl)
theorem dX3_height_1 : decode cX3_height 1 = .ok (.aload_n 0, 1) := dk_42 (dk_at dksX3_height_0 1 rfl rfl)
theorem dX3_height_2 : decode cX3_height 2 = .ok (.getfield 39, 3) := dk_180 0 39 (dk_at dksX3_height_0 2 rfl rfl)
theorem dX3_height_5 : decode cX3_height 5 = .ok (.invokevirtual 212, 3) := dk_182 0 212 (dk_at dksX3_height_0 5 rfl rfl)
theorem dX3_height_8 : decode cX3_height 8 = .ok (.ireturn, 1) := dk_172 (dk_at dksX3_height_0 8 rfl rfl)
abbrev cX3_heightOf : ByteArray := prog_10_method_26_code
def yX3_heightOf : MethodName := ⟨RX3, "heightOf", "(I)I"⟩
def dkwX3_heightOf_1 : List UInt8 := [180, 0, 29, 27, 46, 182, 0, 212, 184, 0, 215, 96, 172]
abbrev dktX3_heightOf_1 : List UInt8 := dkwX3_heightOf_1 ++ []
def dkwX3_heightOf_0 : List UInt8 := [27, 2, 160, 0, 7, 3, 167, 0, 28, 4, 42, 42, 180, 0, 26, 27, 46, 182, 0, 212, 42, 42]
abbrev dktX3_heightOf_0 : List UInt8 := dkwX3_heightOf_0 ++ dktX3_heightOf_1
theorem dksX3_heightOf_0 : cX3_heightOf.data.toList.drop 0 = dktX3_heightOf_0 := by decide +kernel
theorem dksX3_heightOf_1 : cX3_heightOf.data.toList.drop 22 = dktX3_heightOf_1 := dk_seg dksX3_heightOf_0 22 rfl rfl
theorem dX3_heightOf_0 : decode cX3_heightOf 0 = .ok (.iload_n 1, 1) := dk_27 (dk_at dksX3_heightOf_0 0 rfl rfl)
theorem dX3_heightOf_1 : decode cX3_heightOf 1 = .ok (.iconst (-1), 1) := dk_2 (dk_at dksX3_heightOf_0 1 rfl rfl)
theorem dX3_heightOf_2 : decode cX3_heightOf 2 = .ok (.if_icmp .ne 7, 3) := dk_160 0 7 (dk_at dksX3_heightOf_0 2 rfl rfl)
theorem dX3_heightOf_5 : decode cX3_heightOf 5 = .ok (.iconst 0, 1) := dk_3 (dk_at dksX3_heightOf_0 5 rfl rfl)
theorem dX3_heightOf_6 : decode cX3_heightOf 6 = .ok (.goto 28, 3) := dk_167 0 28 (dk_at dksX3_heightOf_0 6 rfl rfl)
theorem dX3_heightOf_9 : decode cX3_heightOf 9 = .ok (.iconst 1, 1) := dk_4 (dk_at dksX3_heightOf_0 9 rfl rfl)
theorem dX3_heightOf_10 : decode cX3_heightOf 10 = .ok (.aload_n 0, 1) := dk_42 (dk_at dksX3_heightOf_0 10 rfl rfl)
theorem dX3_heightOf_11 : decode cX3_heightOf 11 = .ok (.aload_n 0, 1) := dk_42 (dk_at dksX3_heightOf_0 11 rfl rfl)
theorem dX3_heightOf_12 : decode cX3_heightOf 12 = .ok (.getfield 26, 3) := dk_180 0 26 (dk_at dksX3_heightOf_0 12 rfl rfl)
theorem dX3_heightOf_15 : decode cX3_heightOf 15 = .ok (.iload_n 1, 1) := dk_27 (dk_at dksX3_heightOf_0 15 rfl rfl)
theorem dX3_heightOf_16 : decode cX3_heightOf 16 = .ok (.iaload, 1) := dk_46 (dk_at dksX3_heightOf_0 16 rfl rfl)
theorem dX3_heightOf_17 : decode cX3_heightOf 17 = .ok (.invokevirtual 212, 3) := dk_182 0 212 (dk_at dksX3_heightOf_0 17 rfl rfl)
theorem dX3_heightOf_20 : decode cX3_heightOf 20 = .ok (.aload_n 0, 1) := dk_42 (dk_at dksX3_heightOf_0 20 rfl rfl)
theorem dX3_heightOf_21 : decode cX3_heightOf 21 = .ok (.aload_n 0, 1) := dk_42 (dk_at dksX3_heightOf_0 21 rfl rfl)
theorem dX3_heightOf_22 : decode cX3_heightOf 22 = .ok (.getfield 29, 3) := dk_180 0 29 (dk_at dksX3_heightOf_1 0 rfl rfl)
theorem dX3_heightOf_25 : decode cX3_heightOf 25 = .ok (.iload_n 1, 1) := dk_27 (dk_at dksX3_heightOf_1 3 rfl rfl)
theorem dX3_heightOf_26 : decode cX3_heightOf 26 = .ok (.iaload, 1) := dk_46 (dk_at dksX3_heightOf_1 4 rfl rfl)
theorem dX3_heightOf_27 : decode cX3_heightOf 27 = .ok (.invokevirtual 212, 3) := dk_182 0 212 (dk_at dksX3_heightOf_1 5 rfl rfl)
theorem dX3_heightOf_30 : decode cX3_heightOf 30 = .ok (.invokestatic 215, 3) := dk_184 0 215 (dk_at dksX3_heightOf_1 8 rfl rfl)
theorem dX3_heightOf_33 : decode cX3_heightOf 33 = .ok (.iadd, 1) := dk_96 (dk_at dksX3_heightOf_1 11 rfl rfl)
theorem dX3_heightOf_34 : decode cX3_heightOf 34 = .ok (.ireturn, 1) := dk_172 (dk_at dksX3_heightOf_1 12 rfl rfl)
abbrev cX3_rebuildCount : ByteArray := prog_10_method_28_code
def yX3_rebuildCount : MethodName := ⟨RX3, "rebuildCount", "()I"⟩
theorem dX3_rebuildCount_0 : decode cX3_rebuildCount 0 = .ok (.aload_n 0, 1) := by decide +kernel
theorem dX3_rebuildCount_1 : decode cX3_rebuildCount 1 = .ok (.getfield 54, 3) := by decide +kernel
theorem dX3_rebuildCount_4 : decode cX3_rebuildCount 4 = .ok (.ireturn, 1) := by decide +kernel
abbrev cX3_rebuiltNodes : ByteArray := prog_10_method_29_code
def yX3_rebuiltNodes : MethodName := ⟨RX3, "rebuiltNodes", "()I"⟩
theorem dX3_rebuiltNodes_0 : decode cX3_rebuiltNodes 0 = .ok (.aload_n 0, 1) := by decide +kernel
theorem dX3_rebuiltNodes_1 : decode cX3_rebuiltNodes 1 = .ok (.getfield 57, 3) := by decide +kernel
theorem dX3_rebuiltNodes_4 : decode cX3_rebuiltNodes 4 = .ok (.ireturn, 1) := by decide +kernel
abbrev cX3_state : ByteArray := prog_10_method_30_code
def yX3_state : MethodName := ⟨RX3, "state", "(I)I"⟩
def dkwX3_state_1 : List UInt8 := [182, 0, 190, 172]
abbrev dktX3_state_1 : List UInt8 := dkwX3_state_1 ++ []
def dkwX3_state_0 : List UInt8 := [42, 3, 181, 0, 1, 42, 27, 182, 0, 167, 153, 0, 12, 42, 180, 0, 23, 27, 46, 167, 0, 8, 42, 4]
abbrev dktX3_state_0 : List UInt8 := dkwX3_state_0 ++ dktX3_state_1
theorem dksX3_state_0 : cX3_state.data.toList.drop 0 = dktX3_state_0 := by decide +kernel
theorem dksX3_state_1 : cX3_state.data.toList.drop 24 = dktX3_state_1 := dk_seg dksX3_state_0 24 rfl rfl
theorem dX3_state_0 : decode cX3_state 0 = .ok (.aload_n 0, 1) := dk_42 (dk_at dksX3_state_0 0 rfl rfl)
theorem dX3_state_1 : decode cX3_state 1 = .ok (.iconst 0, 1) := dk_3 (dk_at dksX3_state_0 1 rfl rfl)
theorem dX3_state_2 : decode cX3_state 2 = .ok (.putfield 1, 3) := dk_181 0 1 (dk_at dksX3_state_0 2 rfl rfl)
theorem dX3_state_5 : decode cX3_state 5 = .ok (.aload_n 0, 1) := dk_42 (dk_at dksX3_state_0 5 rfl rfl)
theorem dX3_state_6 : decode cX3_state 6 = .ok (.iload_n 1, 1) := dk_27 (dk_at dksX3_state_0 6 rfl rfl)
theorem dX3_state_7 : decode cX3_state 7 = .ok (.invokevirtual 167, 3) := dk_182 0 167 (dk_at dksX3_state_0 7 rfl rfl)
theorem dX3_state_10 : decode cX3_state 10 = .ok (.ifCond .eq 12, 3) := dk_153 0 12 (dk_at dksX3_state_0 10 rfl rfl)
theorem dX3_state_13 : decode cX3_state 13 = .ok (.aload_n 0, 1) := dk_42 (dk_at dksX3_state_0 13 rfl rfl)
theorem dX3_state_14 : decode cX3_state 14 = .ok (.getfield 23, 3) := dk_180 0 23 (dk_at dksX3_state_0 14 rfl rfl)
theorem dX3_state_17 : decode cX3_state 17 = .ok (.iload_n 1, 1) := dk_27 (dk_at dksX3_state_0 17 rfl rfl)
theorem dX3_state_18 : decode cX3_state 18 = .ok (.iaload, 1) := dk_46 (dk_at dksX3_state_0 18 rfl rfl)
theorem dX3_state_19 : decode cX3_state 19 = .ok (.goto 8, 3) := dk_167 0 8 (dk_at dksX3_state_0 19 rfl rfl)
theorem dX3_state_22 : decode cX3_state 22 = .ok (.aload_n 0, 1) := dk_42 (dk_at dksX3_state_0 22 rfl rfl)
theorem dX3_state_23 : decode cX3_state 23 = .ok (.iconst 1, 1) := dk_4 (dk_at dksX3_state_0 23 rfl rfl)
theorem dX3_state_24 : decode cX3_state 24 = .ok (.invokevirtual 190, 3) := dk_182 0 190 (dk_at dksX3_state_1 0 rfl rfl)
theorem dX3_state_27 : decode cX3_state 27 = .ok (.ireturn, 1) := dk_172 (dk_at dksX3_state_1 3 rfl rfl)
abbrev cX3_low : ByteArray := prog_10_method_31_code
def yX3_low : MethodName := ⟨RX3, "low", "(I)I"⟩
def dkwX3_low_1 : List UInt8 := [182, 0, 190, 172]
abbrev dktX3_low_1 : List UInt8 := dkwX3_low_1 ++ []
def dkwX3_low_0 : List UInt8 := [42, 3, 181, 0, 1, 42, 27, 182, 0, 221, 153, 0, 12, 42, 180, 0, 13, 27, 46, 167, 0, 8, 42, 4]
abbrev dktX3_low_0 : List UInt8 := dkwX3_low_0 ++ dktX3_low_1
theorem dksX3_low_0 : cX3_low.data.toList.drop 0 = dktX3_low_0 := by decide +kernel
theorem dksX3_low_1 : cX3_low.data.toList.drop 24 = dktX3_low_1 := dk_seg dksX3_low_0 24 rfl rfl
theorem dX3_low_0 : decode cX3_low 0 = .ok (.aload_n 0, 1) := dk_42 (dk_at dksX3_low_0 0 rfl rfl)
theorem dX3_low_1 : decode cX3_low 1 = .ok (.iconst 0, 1) := dk_3 (dk_at dksX3_low_0 1 rfl rfl)
theorem dX3_low_2 : decode cX3_low 2 = .ok (.putfield 1, 3) := dk_181 0 1 (dk_at dksX3_low_0 2 rfl rfl)
theorem dX3_low_5 : decode cX3_low 5 = .ok (.aload_n 0, 1) := dk_42 (dk_at dksX3_low_0 5 rfl rfl)
theorem dX3_low_6 : decode cX3_low 6 = .ok (.iload_n 1, 1) := dk_27 (dk_at dksX3_low_0 6 rfl rfl)
theorem dX3_low_7 : decode cX3_low 7 = .ok (.invokevirtual 221, 3) := dk_182 0 221 (dk_at dksX3_low_0 7 rfl rfl)
theorem dX3_low_10 : decode cX3_low 10 = .ok (.ifCond .eq 12, 3) := dk_153 0 12 (dk_at dksX3_low_0 10 rfl rfl)
theorem dX3_low_13 : decode cX3_low 13 = .ok (.aload_n 0, 1) := dk_42 (dk_at dksX3_low_0 13 rfl rfl)
theorem dX3_low_14 : decode cX3_low 14 = .ok (.getfield 13, 3) := dk_180 0 13 (dk_at dksX3_low_0 14 rfl rfl)
theorem dX3_low_17 : decode cX3_low 17 = .ok (.iload_n 1, 1) := dk_27 (dk_at dksX3_low_0 17 rfl rfl)
theorem dX3_low_18 : decode cX3_low 18 = .ok (.iaload, 1) := dk_46 (dk_at dksX3_low_0 18 rfl rfl)
theorem dX3_low_19 : decode cX3_low 19 = .ok (.goto 8, 3) := dk_167 0 8 (dk_at dksX3_low_0 19 rfl rfl)
theorem dX3_low_22 : decode cX3_low 22 = .ok (.aload_n 0, 1) := dk_42 (dk_at dksX3_low_0 22 rfl rfl)
theorem dX3_low_23 : decode cX3_low 23 = .ok (.iconst 1, 1) := dk_4 (dk_at dksX3_low_0 23 rfl rfl)
theorem dX3_low_24 : decode cX3_low 24 = .ok (.invokevirtual 190, 3) := dk_182 0 190 (dk_at dksX3_low_1 0 rfl rfl)
theorem dX3_low_27 : decode cX3_low 27 = .ok (.ireturn, 1) := dk_172 (dk_at dksX3_low_1 3 rfl rfl)
abbrev cX3_isInTree : ByteArray := prog_10_method_7_code
def yX3_isInTree : MethodName := ⟨RX3, "isInTree", "(I)Z"⟩
def dkwX3_isInTree_0 : List UInt8 := [42, 27, 182, 0, 167, 153, 0, 17, 42, 180, 0, 23, 27, 46, 5, 162, 0, 7, 4, 167, 0, 4, 3, 172]
abbrev dktX3_isInTree_0 : List UInt8 := dkwX3_isInTree_0 ++ []
theorem dksX3_isInTree_0 : cX3_isInTree.data.toList.drop 0 = dktX3_isInTree_0 := by decide +kernel
theorem dX3_isInTree_0 : decode cX3_isInTree 0 = .ok (.aload_n 0, 1) := dk_42 (dk_at dksX3_isInTree_0 0 rfl rfl)
theorem dX3_isInTree_1 : decode cX3_isInTree 1 = .ok (.iload_n 1, 1) := dk_27 (dk_at dksX3_isInTree_0 1 rfl rfl)
theorem dX3_isInTree_2 : decode cX3_isInTree 2 = .ok (.invokevirtual 167, 3) := dk_182 0 167 (dk_at dksX3_isInTree_0 2 rfl rfl)
theorem dX3_isInTree_5 : decode cX3_isInTree 5 = .ok (.ifCond .eq 17, 3) := dk_153 0 17 (dk_at dksX3_isInTree_0 5 rfl rfl)
theorem dX3_isInTree_8 : decode cX3_isInTree 8 = .ok (.aload_n 0, 1) := dk_42 (dk_at dksX3_isInTree_0 8 rfl rfl)
theorem dX3_isInTree_9 : decode cX3_isInTree 9 = .ok (.getfield 23, 3) := dk_180 0 23 (dk_at dksX3_isInTree_0 9 rfl rfl)
theorem dX3_isInTree_12 : decode cX3_isInTree 12 = .ok (.iload_n 1, 1) := dk_27 (dk_at dksX3_isInTree_0 12 rfl rfl)
theorem dX3_isInTree_13 : decode cX3_isInTree 13 = .ok (.iaload, 1) := dk_46 (dk_at dksX3_isInTree_0 13 rfl rfl)
theorem dX3_isInTree_14 : decode cX3_isInTree 14 = .ok (.iconst 2, 1) := dk_5 (dk_at dksX3_isInTree_0 14 rfl rfl)
theorem dX3_isInTree_15 : decode cX3_isInTree 15 = .ok (.if_icmp .ge 7, 3) := dk_162 0 7 (dk_at dksX3_isInTree_0 15 rfl rfl)
theorem dX3_isInTree_18 : decode cX3_isInTree 18 = .ok (.iconst 1, 1) := dk_4 (dk_at dksX3_isInTree_0 18 rfl rfl)
theorem dX3_isInTree_19 : decode cX3_isInTree 19 = .ok (.goto 4, 3) := dk_167 0 4 (dk_at dksX3_isInTree_0 19 rfl rfl)
theorem dX3_isInTree_22 : decode cX3_isInTree 22 = .ok (.iconst 0, 1) := dk_3 (dk_at dksX3_isInTree_0 22 rfl rfl)
theorem dX3_isInTree_23 : decode cX3_isInTree 23 = .ok (.ireturn, 1) := dk_172 (dk_at dksX3_isInTree_0 23 rfl rfl)
abbrev cX3_high : ByteArray := prog_10_method_32_code
def yX3_high : MethodName := ⟨RX3, "high", "(I)I"⟩
def dkwX3_high_1 : List UInt8 := [182, 0, 190, 172]
abbrev dktX3_high_1 : List UInt8 := dkwX3_high_1 ++ []
def dkwX3_high_0 : List UInt8 := [42, 3, 181, 0, 1, 42, 27, 182, 0, 221, 153, 0, 12, 42, 180, 0, 17, 27, 46, 167, 0, 8, 42, 4]
abbrev dktX3_high_0 : List UInt8 := dkwX3_high_0 ++ dktX3_high_1
theorem dksX3_high_0 : cX3_high.data.toList.drop 0 = dktX3_high_0 := by decide +kernel
theorem dksX3_high_1 : cX3_high.data.toList.drop 24 = dktX3_high_1 := dk_seg dksX3_high_0 24 rfl rfl
theorem dX3_high_0 : decode cX3_high 0 = .ok (.aload_n 0, 1) := dk_42 (dk_at dksX3_high_0 0 rfl rfl)
theorem dX3_high_1 : decode cX3_high 1 = .ok (.iconst 0, 1) := dk_3 (dk_at dksX3_high_0 1 rfl rfl)
theorem dX3_high_2 : decode cX3_high 2 = .ok (.putfield 1, 3) := dk_181 0 1 (dk_at dksX3_high_0 2 rfl rfl)
theorem dX3_high_5 : decode cX3_high 5 = .ok (.aload_n 0, 1) := dk_42 (dk_at dksX3_high_0 5 rfl rfl)
theorem dX3_high_6 : decode cX3_high 6 = .ok (.iload_n 1, 1) := dk_27 (dk_at dksX3_high_0 6 rfl rfl)
theorem dX3_high_7 : decode cX3_high 7 = .ok (.invokevirtual 221, 3) := dk_182 0 221 (dk_at dksX3_high_0 7 rfl rfl)
theorem dX3_high_10 : decode cX3_high 10 = .ok (.ifCond .eq 12, 3) := dk_153 0 12 (dk_at dksX3_high_0 10 rfl rfl)
theorem dX3_high_13 : decode cX3_high 13 = .ok (.aload_n 0, 1) := dk_42 (dk_at dksX3_high_0 13 rfl rfl)
theorem dX3_high_14 : decode cX3_high 14 = .ok (.getfield 17, 3) := dk_180 0 17 (dk_at dksX3_high_0 14 rfl rfl)
theorem dX3_high_17 : decode cX3_high 17 = .ok (.iload_n 1, 1) := dk_27 (dk_at dksX3_high_0 17 rfl rfl)
theorem dX3_high_18 : decode cX3_high 18 = .ok (.iaload, 1) := dk_46 (dk_at dksX3_high_0 18 rfl rfl)
theorem dX3_high_19 : decode cX3_high 19 = .ok (.goto 8, 3) := dk_167 0 8 (dk_at dksX3_high_0 19 rfl rfl)
theorem dX3_high_22 : decode cX3_high 22 = .ok (.aload_n 0, 1) := dk_42 (dk_at dksX3_high_0 22 rfl rfl)
theorem dX3_high_23 : decode cX3_high 23 = .ok (.iconst 1, 1) := dk_4 (dk_at dksX3_high_0 23 rfl rfl)
theorem dX3_high_24 : decode cX3_high 24 = .ok (.invokevirtual 190, 3) := dk_182 0 190 (dk_at dksX3_high_1 0 rfl rfl)
theorem dX3_high_27 : decode cX3_high 27 = .ok (.ireturn, 1) := dk_172 (dk_at dksX3_high_1 3 rfl rfl)
abbrev cX3_weight : ByteArray := prog_10_method_33_code
def yX3_weight : MethodName := ⟨RX3, "weight", "(I)I"⟩
def dkwX3_weight_1 : List UInt8 := [182, 0, 190, 172]
abbrev dktX3_weight_1 : List UInt8 := dkwX3_weight_1 ++ []
def dkwX3_weight_0 : List UInt8 := [42, 3, 181, 0, 1, 42, 27, 182, 0, 221, 153, 0, 12, 42, 180, 0, 20, 27, 46, 167, 0, 8, 42, 4]
abbrev dktX3_weight_0 : List UInt8 := dkwX3_weight_0 ++ dktX3_weight_1
theorem dksX3_weight_0 : cX3_weight.data.toList.drop 0 = dktX3_weight_0 := by decide +kernel
theorem dksX3_weight_1 : cX3_weight.data.toList.drop 24 = dktX3_weight_1 := dk_seg dksX3_weight_0 24 rfl rfl
theorem dX3_weight_0 : decode cX3_weight 0 = .ok (.aload_n 0, 1) := dk_42 (dk_at dksX3_weight_0 0 rfl rfl)
theorem dX3_weight_1 : decode cX3_weight 1 = .ok (.iconst 0, 1) := dk_3 (dk_at dksX3_weight_0 1 rfl rfl)
theorem dX3_weight_2 : decode cX3_weight 2 = .ok (.putfield 1, 3) := dk_181 0 1 (dk_at dksX3_weight_0 2 rfl rfl)
theorem dX3_weight_5 : decode cX3_weight 5 = .ok (.aload_n 0, 1) := dk_42 (dk_at dksX3_weight_0 5 rfl rfl)
theorem dX3_weight_6 : decode cX3_weight 6 = .ok (.iload_n 1, 1) := dk_27 (dk_at dksX3_weight_0 6 rfl rfl)
theorem dX3_weight_7 : decode cX3_weight 7 = .ok (.invokevirtual 221, 3) := dk_182 0 221 (dk_at dksX3_weight_0 7 rfl rfl)
theorem dX3_weight_10 : decode cX3_weight 10 = .ok (.ifCond .eq 12, 3) := dk_153 0 12 (dk_at dksX3_weight_0 10 rfl rfl)
theorem dX3_weight_13 : decode cX3_weight 13 = .ok (.aload_n 0, 1) := dk_42 (dk_at dksX3_weight_0 13 rfl rfl)
theorem dX3_weight_14 : decode cX3_weight 14 = .ok (.getfield 20, 3) := dk_180 0 20 (dk_at dksX3_weight_0 14 rfl rfl)
theorem dX3_weight_17 : decode cX3_weight 17 = .ok (.iload_n 1, 1) := dk_27 (dk_at dksX3_weight_0 17 rfl rfl)
theorem dX3_weight_18 : decode cX3_weight 18 = .ok (.iaload, 1) := dk_46 (dk_at dksX3_weight_0 18 rfl rfl)
theorem dX3_weight_19 : decode cX3_weight 19 = .ok (.goto 8, 3) := dk_167 0 8 (dk_at dksX3_weight_0 19 rfl rfl)
theorem dX3_weight_22 : decode cX3_weight 22 = .ok (.aload_n 0, 1) := dk_42 (dk_at dksX3_weight_0 22 rfl rfl)
theorem dX3_weight_23 : decode cX3_weight 23 = .ok (.iconst 1, 1) := dk_4 (dk_at dksX3_weight_0 23 rfl rfl)
theorem dX3_weight_24 : decode cX3_weight 24 = .ok (.invokevirtual 190, 3) := dk_182 0 190 (dk_at dksX3_weight_1 0 rfl rfl)
theorem dX3_weight_27 : decode cX3_weight 27 = .ok (.ireturn, 1) := dk_172 (dk_at dksX3_weight_1 3 rfl rfl)
abbrev cX3_parent : ByteArray := prog_10_method_34_code
def yX3_parent : MethodName := ⟨RX3, "parent", "(I)I"⟩
def dkwX3_parent_1 : List UInt8 := [182, 0, 190, 172]
abbrev dktX3_parent_1 : List UInt8 := dkwX3_parent_1 ++ []
def dkwX3_parent_0 : List UInt8 := [42, 3, 181, 0, 1, 42, 27, 182, 0, 221, 153, 0, 12, 42, 180, 0, 32, 27, 46, 167, 0, 8, 42, 4]
abbrev dktX3_parent_0 : List UInt8 := dkwX3_parent_0 ++ dktX3_parent_1
theorem dksX3_parent_0 : cX3_parent.data.toList.drop 0 = dktX3_parent_0 := by decide +kernel
theorem dksX3_parent_1 : cX3_parent.data.toList.drop 24 = dktX3_parent_1 := dk_seg dksX3_parent_0 24 rfl rfl
theorem dX3_parent_0 : decode cX3_parent 0 = .ok (.aload_n 0, 1) := dk_42 (dk_at dksX3_parent_0 0 rfl rfl)
theorem dX3_parent_1 : decode cX3_parent 1 = .ok (.iconst 0, 1) := dk_3 (dk_at dksX3_parent_0 1 rfl rfl)
theorem dX3_parent_2 : decode cX3_parent 2 = .ok (.putfield 1, 3) := dk_181 0 1 (dk_at dksX3_parent_0 2 rfl rfl)
theorem dX3_parent_5 : decode cX3_parent 5 = .ok (.aload_n 0, 1) := dk_42 (dk_at dksX3_parent_0 5 rfl rfl)
theorem dX3_parent_6 : decode cX3_parent 6 = .ok (.iload_n 1, 1) := dk_27 (dk_at dksX3_parent_0 6 rfl rfl)
theorem dX3_parent_7 : decode cX3_parent 7 = .ok (.invokevirtual 221, 3) := dk_182 0 221 (dk_at dksX3_parent_0 7 rfl rfl)
theorem dX3_parent_10 : decode cX3_parent 10 = .ok (.ifCond .eq 12, 3) := dk_153 0 12 (dk_at dksX3_parent_0 10 rfl rfl)
theorem dX3_parent_13 : decode cX3_parent 13 = .ok (.aload_n 0, 1) := dk_42 (dk_at dksX3_parent_0 13 rfl rfl)
theorem dX3_parent_14 : decode cX3_parent 14 = .ok (.getfield 32, 3) := dk_180 0 32 (dk_at dksX3_parent_0 14 rfl rfl)
theorem dX3_parent_17 : decode cX3_parent 17 = .ok (.iload_n 1, 1) := dk_27 (dk_at dksX3_parent_0 17 rfl rfl)
theorem dX3_parent_18 : decode cX3_parent 18 = .ok (.iaload, 1) := dk_46 (dk_at dksX3_parent_0 18 rfl rfl)
theorem dX3_parent_19 : decode cX3_parent 19 = .ok (.goto 8, 3) := dk_167 0 8 (dk_at dksX3_parent_0 19 rfl rfl)
theorem dX3_parent_22 : decode cX3_parent 22 = .ok (.aload_n 0, 1) := dk_42 (dk_at dksX3_parent_0 22 rfl rfl)
theorem dX3_parent_23 : decode cX3_parent 23 = .ok (.iconst 1, 1) := dk_4 (dk_at dksX3_parent_0 23 rfl rfl)
theorem dX3_parent_24 : decode cX3_parent 24 = .ok (.invokevirtual 190, 3) := dk_182 0 190 (dk_at dksX3_parent_1 0 rfl rfl)
theorem dX3_parent_27 : decode cX3_parent 27 = .ok (.ireturn, 1) := dk_172 (dk_at dksX3_parent_1 3 rfl rfl)
abbrev cX3_child : ByteArray := prog_10_method_35_code
def yX3_child : MethodName := ⟨RX3, "child", "(IZ)I"⟩
def dkwX3_child_1 : List UInt8 := [180, 0, 29, 27, 46, 167, 0, 9, 42, 180, 0, 26, 27, 46, 172]
abbrev dktX3_child_1 : List UInt8 := dkwX3_child_1 ++ []
def dkwX3_child_0 : List UInt8 := [42, 3, 181, 0, 1, 42, 27, 182, 0, 221, 154, 0, 9, 42, 4, 182, 0, 190, 172, 28, 153, 0, 12, 42]
abbrev dktX3_child_0 : List UInt8 := dkwX3_child_0 ++ dktX3_child_1
theorem dksX3_child_0 : cX3_child.data.toList.drop 0 = dktX3_child_0 := by decide +kernel
theorem dksX3_child_1 : cX3_child.data.toList.drop 24 = dktX3_child_1 := dk_seg dksX3_child_0 24 rfl rfl
theorem dX3_child_0 : decode cX3_child 0 = .ok (.aload_n 0, 1) := dk_42 (dk_at dksX3_child_0 0 rfl rfl)
theorem dX3_child_1 : decode cX3_child 1 = .ok (.iconst 0, 1) := dk_3 (dk_at dksX3_child_0 1 rfl rfl)
theorem dX3_child_2 : decode cX3_child 2 = .ok (.putfield 1, 3) := dk_181 0 1 (dk_at dksX3_child_0 2 rfl rfl)
theorem dX3_child_5 : decode cX3_child 5 = .ok (.aload_n 0, 1) := dk_42 (dk_at dksX3_child_0 5 rfl rfl)
theorem dX3_child_6 : decode cX3_child 6 = .ok (.iload_n 1, 1) := dk_27 (dk_at dksX3_child_0 6 rfl rfl)
theorem dX3_child_7 : decode cX3_child 7 = .ok (.invokevirtual 221, 3) := dk_182 0 221 (dk_at dksX3_child_0 7 rfl rfl)
theorem dX3_child_10 : decode cX3_child 10 = .ok (.ifCond .ne 9, 3) := dk_154 0 9 (dk_at dksX3_child_0 10 rfl rfl)
theorem dX3_child_13 : decode cX3_child 13 = .ok (.aload_n 0, 1) := dk_42 (dk_at dksX3_child_0 13 rfl rfl)
theorem dX3_child_14 : decode cX3_child 14 = .ok (.iconst 1, 1) := dk_4 (dk_at dksX3_child_0 14 rfl rfl)
theorem dX3_child_15 : decode cX3_child 15 = .ok (.invokevirtual 190, 3) := dk_182 0 190 (dk_at dksX3_child_0 15 rfl rfl)
theorem dX3_child_18 : decode cX3_child 18 = .ok (.ireturn, 1) := dk_172 (dk_at dksX3_child_0 18 rfl rfl)
theorem dX3_child_19 : decode cX3_child 19 = .ok (.iload_n 2, 1) := dk_28 (dk_at dksX3_child_0 19 rfl rfl)
theorem dX3_child_20 : decode cX3_child 20 = .ok (.ifCond .eq 12, 3) := dk_153 0 12 (dk_at dksX3_child_0 20 rfl rfl)
theorem dX3_child_23 : decode cX3_child 23 = .ok (.aload_n 0, 1) := dk_42 (dk_at dksX3_child_0 23 rfl rfl)
theorem dX3_child_24 : decode cX3_child 24 = .ok (.getfield 29, 3) := dk_180 0 29 (dk_at dksX3_child_1 0 rfl rfl)
theorem dX3_child_27 : decode cX3_child 27 = .ok (.iload_n 1, 1) := dk_27 (dk_at dksX3_child_1 3 rfl rfl)
theorem dX3_child_28 : decode cX3_child 28 = .ok (.iaload, 1) := dk_46 (dk_at dksX3_child_1 4 rfl rfl)
theorem dX3_child_29 : decode cX3_child 29 = .ok (.goto 9, 3) := dk_167 0 9 (dk_at dksX3_child_1 5 rfl rfl)
theorem dX3_child_32 : decode cX3_child 32 = .ok (.aload_n 0, 1) := dk_42 (dk_at dksX3_child_1 8 rfl rfl)
theorem dX3_child_33 : decode cX3_child 33 = .ok (.getfield 26, 3) := dk_180 0 26 (dk_at dksX3_child_1 9 rfl rfl)
theorem dX3_child_36 : decode cX3_child 36 = .ok (.iload_n 1, 1) := dk_27 (dk_at dksX3_child_1 12 rfl rfl)
theorem dX3_child_37 : decode cX3_child 37 = .ok (.iaload, 1) := dk_46 (dk_at dksX3_child_1 13 rfl rfl)
theorem dX3_child_38 : decode cX3_child 38 = .ok (.ireturn, 1) := dk_172 (dk_at dksX3_child_1 14 rfl rfl)
abbrev cX3_isRed : ByteArray := prog_10_method_36_code
def yX3_isRed : MethodName := ⟨RX3, "isRed", "(I)Z"⟩
def dkwX3_isRed_1 : List UInt8 := [182, 0, 190, 158, 0, 7, 4, 167, 0, 4, 3, 172]
abbrev dktX3_isRed_1 : List UInt8 := dkwX3_isRed_1 ++ []
def dkwX3_isRed_0 : List UInt8 := [42, 3, 181, 0, 1, 42, 27, 182, 0, 221, 153, 0, 10, 42, 180, 0, 35, 27, 51, 172, 42, 4]
abbrev dktX3_isRed_0 : List UInt8 := dkwX3_isRed_0 ++ dktX3_isRed_1
theorem dksX3_isRed_0 : cX3_isRed.data.toList.drop 0 = dktX3_isRed_0 := by decide +kernel
theorem dksX3_isRed_1 : cX3_isRed.data.toList.drop 22 = dktX3_isRed_1 := dk_seg dksX3_isRed_0 22 rfl rfl
theorem dX3_isRed_0 : decode cX3_isRed 0 = .ok (.aload_n 0, 1) := dk_42 (dk_at dksX3_isRed_0 0 rfl rfl)
theorem dX3_isRed_1 : decode cX3_isRed 1 = .ok (.iconst 0, 1) := dk_3 (dk_at dksX3_isRed_0 1 rfl rfl)
theorem dX3_isRed_2 : decode cX3_isRed 2 = .ok (.putfield 1, 3) := dk_181 0 1 (dk_at dksX3_isRed_0 2 rfl rfl)
theorem dX3_isRed_5 : decode cX3_isRed 5 = .ok (.aload_n 0, 1) := dk_42 (dk_at dksX3_isRed_0 5 rfl rfl)
theorem dX3_isRed_6 : decode cX3_isRed 6 = .ok (.iload_n 1, 1) := dk_27 (dk_at dksX3_isRed_0 6 rfl rfl)
theorem dX3_isRed_7 : decode cX3_isRed 7 = .ok (.invokevirtual 221, 3) := dk_182 0 221 (dk_at dksX3_isRed_0 7 rfl rfl)
theorem dX3_isRed_10 : decode cX3_isRed 10 = .ok (.ifCond .eq 10, 3) := dk_153 0 10 (dk_at dksX3_isRed_0 10 rfl rfl)
theorem dX3_isRed_13 : decode cX3_isRed 13 = .ok (.aload_n 0, 1) := dk_42 (dk_at dksX3_isRed_0 13 rfl rfl)
theorem dX3_isRed_14 : decode cX3_isRed 14 = .ok (.getfield 35, 3) := dk_180 0 35 (dk_at dksX3_isRed_0 14 rfl rfl)
theorem dX3_isRed_17 : decode cX3_isRed 17 = .ok (.iload_n 1, 1) := dk_27 (dk_at dksX3_isRed_0 17 rfl rfl)
theorem dX3_isRed_18 : decode cX3_isRed 18 = .ok (.baload, 1) := dk_51 (dk_at dksX3_isRed_0 18 rfl rfl)
theorem dX3_isRed_19 : decode cX3_isRed 19 = .ok (.ireturn, 1) := dk_172 (dk_at dksX3_isRed_0 19 rfl rfl)
theorem dX3_isRed_20 : decode cX3_isRed 20 = .ok (.aload_n 0, 1) := dk_42 (dk_at dksX3_isRed_0 20 rfl rfl)
theorem dX3_isRed_21 : decode cX3_isRed 21 = .ok (.iconst 1, 1) := dk_4 (dk_at dksX3_isRed_0 21 rfl rfl)
theorem dX3_isRed_22 : decode cX3_isRed 22 = .ok (.invokevirtual 190, 3) := dk_182 0 190 (dk_at dksX3_isRed_1 0 rfl rfl)
theorem dX3_isRed_25 : decode cX3_isRed 25 = .ok (.ifCond .le 7, 3) := dk_158 0 7 (dk_at dksX3_isRed_1 3 rfl rfl)
theorem dX3_isRed_28 : decode cX3_isRed 28 = .ok (.iconst 1, 1) := dk_4 (dk_at dksX3_isRed_1 6 rfl rfl)
theorem dX3_isRed_29 : decode cX3_isRed 29 = .ok (.goto 4, 3) := dk_167 0 4 (dk_at dksX3_isRed_1 7 rfl rfl)
theorem dX3_isRed_32 : decode cX3_isRed 32 = .ok (.iconst 0, 1) := dk_3 (dk_at dksX3_isRed_1 10 rfl rfl)
theorem dX3_isRed_33 : decode cX3_isRed 33 = .ok (.ireturn, 1) := dk_172 (dk_at dksX3_isRed_1 11 rfl rfl)
abbrev cX3_subtreeSize : ByteArray := prog_10_method_39_code
def yX3_subtreeSize : MethodName := ⟨RX3, "subtreeSize", "(I)I"⟩
def dkwX3_subtreeSize_1 : List UInt8 := [182, 0, 190, 172]
abbrev dktX3_subtreeSize_1 : List UInt8 := dkwX3_subtreeSize_1 ++ []
def dkwX3_subtreeSize_0 : List UInt8 := [42, 3, 181, 0, 1, 42, 27, 182, 0, 221, 153, 0, 11, 42, 27, 182, 0, 224, 167, 0, 8, 42, 4]
abbrev dktX3_subtreeSize_0 : List UInt8 := dkwX3_subtreeSize_0 ++ dktX3_subtreeSize_1
theorem dksX3_subtreeSize_0 : cX3_subtreeSize.data.toList.drop 0 = dktX3_subtreeSize_0 := by decide +kernel
theorem dksX3_subtreeSize_1 : cX3_subtreeSize.data.toList.drop 23 = dktX3_subtreeSize_1 := dk_seg dksX3_subtreeSize_0 23 rfl rfl
theorem dX3_subtreeSize_0 : decode cX3_subtreeSize 0 = .ok (.aload_n 0, 1) := dk_42 (dk_at dksX3_subtreeSize_0 0 rfl rfl)
theorem dX3_subtreeSize_1 : decode cX3_subtreeSize 1 = .ok (.iconst 0, 1) := dk_3 (dk_at dksX3_subtreeSize_0 1 rfl rfl)
theorem dX3_subtreeSize_2 : decode cX3_subtreeSize 2 = .ok (.putfield 1, 3) := dk_181 0 1 (dk_at dksX3_subtreeSize_0 2 rfl rfl)
theorem dX3_subtreeSize_5 : decode cX3_subtreeSize 5 = .ok (.aload_n 0, 1) := dk_42 (dk_at dksX3_subtreeSize_0 5 rfl rfl)
theorem dX3_subtreeSize_6 : decode cX3_subtreeSize 6 = .ok (.iload_n 1, 1) := dk_27 (dk_at dksX3_subtreeSize_0 6 rfl rfl)
theorem dX3_subtreeSize_7 : decode cX3_subtreeSize 7 = .ok (.invokevirtual 221, 3) := dk_182 0 221 (dk_at dksX3_subtreeSize_0 7 rfl rfl)
theorem dX3_subtreeSize_10 : decode cX3_subtreeSize 10 = .ok (.ifCond .eq 11, 3) := dk_153 0 11 (dk_at dksX3_subtreeSize_0 10 rfl rfl)
theorem dX3_subtreeSize_13 : decode cX3_subtreeSize 13 = .ok (.aload_n 0, 1) := dk_42 (dk_at dksX3_subtreeSize_0 13 rfl rfl)
theorem dX3_subtreeSize_14 : decode cX3_subtreeSize 14 = .ok (.iload_n 1, 1) := dk_27 (dk_at dksX3_subtreeSize_0 14 rfl rfl)
theorem dX3_subtreeSize_15 : decode cX3_subtreeSize 15 = .ok (.invokevirtual 224, 3) := dk_182 0 224 (dk_at dksX3_subtreeSize_0 15 rfl rfl)
theorem dX3_subtreeSize_18 : decode cX3_subtreeSize 18 = .ok (.goto 8, 3) := dk_167 0 8 (dk_at dksX3_subtreeSize_0 18 rfl rfl)
theorem dX3_subtreeSize_21 : decode cX3_subtreeSize 21 = .ok (.aload_n 0, 1) := dk_42 (dk_at dksX3_subtreeSize_0 21 rfl rfl)
theorem dX3_subtreeSize_22 : decode cX3_subtreeSize 22 = .ok (.iconst 1, 1) := dk_4 (dk_at dksX3_subtreeSize_0 22 rfl rfl)
theorem dX3_subtreeSize_23 : decode cX3_subtreeSize 23 = .ok (.invokevirtual 190, 3) := dk_182 0 190 (dk_at dksX3_subtreeSize_1 0 rfl rfl)
theorem dX3_subtreeSize_26 : decode cX3_subtreeSize 26 = .ok (.ireturn, 1) := dk_172 (dk_at dksX3_subtreeSize_1 3 rfl rfl)
abbrev cX3_sizeOf : ByteArray := prog_10_method_37_code
def yX3_sizeOf : MethodName := ⟨RX3, "sizeOf", "(I)I"⟩
def dkwX3_sizeOf_1 : List UInt8 := [42, 180, 0, 26, 27, 46, 182, 0, 224, 96, 42, 42, 180, 0, 29, 27, 46, 182, 0, 224, 96, 172]
abbrev dktX3_sizeOf_1 : List UInt8 := dkwX3_sizeOf_1 ++ []
def dkwX3_sizeOf_0 : List UInt8 := [27, 2, 160, 0, 7, 3, 167, 0, 39, 42, 180, 0, 23, 27, 46, 154, 0, 7, 4, 167, 0, 4, 3, 42]
abbrev dktX3_sizeOf_0 : List UInt8 := dkwX3_sizeOf_0 ++ dktX3_sizeOf_1
theorem dksX3_sizeOf_0 : cX3_sizeOf.data.toList.drop 0 = dktX3_sizeOf_0 := by decide +kernel
theorem dksX3_sizeOf_1 : cX3_sizeOf.data.toList.drop 24 = dktX3_sizeOf_1 := dk_seg dksX3_sizeOf_0 24 rfl rfl
theorem dX3_sizeOf_0 : decode cX3_sizeOf 0 = .ok (.iload_n 1, 1) := dk_27 (dk_at dksX3_sizeOf_0 0 rfl rfl)
theorem dX3_sizeOf_1 : decode cX3_sizeOf 1 = .ok (.iconst (-1), 1) := dk_2 (dk_at dksX3_sizeOf_0 1 rfl rfl)
theorem dX3_sizeOf_2 : decode cX3_sizeOf 2 = .ok (.if_icmp .ne 7, 3) := dk_160 0 7 (dk_at dksX3_sizeOf_0 2 rfl rfl)
theorem dX3_sizeOf_5 : decode cX3_sizeOf 5 = .ok (.iconst 0, 1) := dk_3 (dk_at dksX3_sizeOf_0 5 rfl rfl)
theorem dX3_sizeOf_6 : decode cX3_sizeOf 6 = .ok (.goto 39, 3) := dk_167 0 39 (dk_at dksX3_sizeOf_0 6 rfl rfl)
theorem dX3_sizeOf_9 : decode cX3_sizeOf 9 = .ok (.aload_n 0, 1) := dk_42 (dk_at dksX3_sizeOf_0 9 rfl rfl)
theorem dX3_sizeOf_10 : decode cX3_sizeOf 10 = .ok (.getfield 23, 3) := dk_180 0 23 (dk_at dksX3_sizeOf_0 10 rfl rfl)
theorem dX3_sizeOf_13 : decode cX3_sizeOf 13 = .ok (.iload_n 1, 1) := dk_27 (dk_at dksX3_sizeOf_0 13 rfl rfl)
theorem dX3_sizeOf_14 : decode cX3_sizeOf 14 = .ok (.iaload, 1) := dk_46 (dk_at dksX3_sizeOf_0 14 rfl rfl)
theorem dX3_sizeOf_15 : decode cX3_sizeOf 15 = .ok (.ifCond .ne 7, 3) := dk_154 0 7 (dk_at dksX3_sizeOf_0 15 rfl rfl)
theorem dX3_sizeOf_18 : decode cX3_sizeOf 18 = .ok (.iconst 1, 1) := dk_4 (dk_at dksX3_sizeOf_0 18 rfl rfl)
theorem dX3_sizeOf_19 : decode cX3_sizeOf 19 = .ok (.goto 4, 3) := dk_167 0 4 (dk_at dksX3_sizeOf_0 19 rfl rfl)
theorem dX3_sizeOf_22 : decode cX3_sizeOf 22 = .ok (.iconst 0, 1) := dk_3 (dk_at dksX3_sizeOf_0 22 rfl rfl)
theorem dX3_sizeOf_23 : decode cX3_sizeOf 23 = .ok (.aload_n 0, 1) := dk_42 (dk_at dksX3_sizeOf_0 23 rfl rfl)
theorem dX3_sizeOf_24 : decode cX3_sizeOf 24 = .ok (.aload_n 0, 1) := dk_42 (dk_at dksX3_sizeOf_1 0 rfl rfl)
theorem dX3_sizeOf_25 : decode cX3_sizeOf 25 = .ok (.getfield 26, 3) := dk_180 0 26 (dk_at dksX3_sizeOf_1 1 rfl rfl)
theorem dX3_sizeOf_28 : decode cX3_sizeOf 28 = .ok (.iload_n 1, 1) := dk_27 (dk_at dksX3_sizeOf_1 4 rfl rfl)
theorem dX3_sizeOf_29 : decode cX3_sizeOf 29 = .ok (.iaload, 1) := dk_46 (dk_at dksX3_sizeOf_1 5 rfl rfl)
theorem dX3_sizeOf_30 : decode cX3_sizeOf 30 = .ok (.invokevirtual 224, 3) := dk_182 0 224 (dk_at dksX3_sizeOf_1 6 rfl rfl)
theorem dX3_sizeOf_33 : decode cX3_sizeOf 33 = .ok (.iadd, 1) := dk_96 (dk_at dksX3_sizeOf_1 9 rfl rfl)
theorem dX3_sizeOf_34 : decode cX3_sizeOf 34 = .ok (.aload_n 0, 1) := dk_42 (dk_at dksX3_sizeOf_1 10 rfl rfl)
theorem dX3_sizeOf_35 : decode cX3_sizeOf 35 = .ok (.aload_n 0, 1) := dk_42 (dk_at dksX3_sizeOf_1 11 rfl rfl)
theorem dX3_sizeOf_36 : decode cX3_sizeOf 36 = .ok (.getfield 29, 3) := dk_180 0 29 (dk_at dksX3_sizeOf_1 12 rfl rfl)
theorem dX3_sizeOf_39 : decode cX3_sizeOf 39 = .ok (.iload_n 1, 1) := dk_27 (dk_at dksX3_sizeOf_1 15 rfl rfl)
theorem dX3_sizeOf_40 : decode cX3_sizeOf 40 = .ok (.iaload, 1) := dk_46 (dk_at dksX3_sizeOf_1 16 rfl rfl)
theorem dX3_sizeOf_41 : decode cX3_sizeOf 41 = .ok (.invokevirtual 224, 3) := dk_182 0 224 (dk_at dksX3_sizeOf_1 17 rfl rfl)
theorem dX3_sizeOf_44 : decode cX3_sizeOf 44 = .ok (.iadd, 1) := dk_96 (dk_at dksX3_sizeOf_1 20 rfl rfl)
theorem dX3_sizeOf_45 : decode cX3_sizeOf 45 = .ok (.ireturn, 1) := dk_172 (dk_at dksX3_sizeOf_1 21 rfl rfl)
abbrev cX3_subtreeHigh : ByteArray := prog_10_method_41_code
def yX3_subtreeHigh : MethodName := ⟨RX3, "subtreeHigh", "(I)I"⟩
def dkwX3_subtreeHigh_0 : List UInt8 := [42, 27, 4, 182, 0, 237, 172]
abbrev dktX3_subtreeHigh_0 : List UInt8 := dkwX3_subtreeHigh_0 ++ []
theorem dksX3_subtreeHigh_0 : cX3_subtreeHigh.data.toList.drop 0 = dktX3_subtreeHigh_0 := by decide +kernel
theorem dX3_subtreeHigh_0 : decode cX3_subtreeHigh 0 = .ok (.aload_n 0, 1) := dk_42 (dk_at dksX3_subtreeHigh_0 0 rfl rfl)
theorem dX3_subtreeHigh_1 : decode cX3_subtreeHigh 1 = .ok (.iload_n 1, 1) := dk_27 (dk_at dksX3_subtreeHigh_0 1 rfl rfl)
theorem dX3_subtreeHigh_2 : decode cX3_subtreeHigh 2 = .ok (.iconst 1, 1) := dk_4 (dk_at dksX3_subtreeHigh_0 2 rfl rfl)
theorem dX3_subtreeHigh_3 : decode cX3_subtreeHigh 3 = .ok (.invokevirtual 237, 3) := dk_182 0 237 (dk_at dksX3_subtreeHigh_0 3 rfl rfl)
theorem dX3_subtreeHigh_6 : decode cX3_subtreeHigh 6 = .ok (.ireturn, 1) := dk_172 (dk_at dksX3_subtreeHigh_0 6 rfl rfl)
abbrev cX3_greatestOf : ByteArray := prog_10_method_40_code
def yX3_greatestOf : MethodName := ⟨RX3, "greatestOf", "(IZ)I"⟩
def dkwX3_greatestOf_2 : List UInt8 := [180, 0, 227, 172]
abbrev dktX3_greatestOf_2 : List UInt8 := dkwX3_greatestOf_2 ++ []
def dkwX3_greatestOf_1 : List UInt8 := [154, 0, 9, 42, 5, 182, 0, 190, 172, 42, 18, 236, 181, 0, 227, 42, 27, 28, 182, 0, 230, 42]
abbrev dktX3_greatestOf_1 : List UInt8 := dkwX3_greatestOf_1 ++ dktX3_greatestOf_2
def dkwX3_greatestOf_0 : List UInt8 := [42, 3, 181, 0, 1, 42, 27, 182, 0, 221, 154, 0, 9, 42, 4, 182, 0, 190, 172, 42, 27, 182, 0, 224]
abbrev dktX3_greatestOf_0 : List UInt8 := dkwX3_greatestOf_0 ++ dktX3_greatestOf_1
theorem dksX3_greatestOf_0 : cX3_greatestOf.data.toList.drop 0 = dktX3_greatestOf_0 := by decide +kernel
theorem dksX3_greatestOf_1 : cX3_greatestOf.data.toList.drop 24 = dktX3_greatestOf_1 := dk_seg dksX3_greatestOf_0 24 rfl rfl
theorem dksX3_greatestOf_2 : cX3_greatestOf.data.toList.drop 46 = dktX3_greatestOf_2 := dk_seg dksX3_greatestOf_1 22 rfl rfl
theorem dX3_greatestOf_0 : decode cX3_greatestOf 0 = .ok (.aload_n 0, 1) := dk_42 (dk_at dksX3_greatestOf_0 0 rfl rfl)
theorem dX3_greatestOf_1 : decode cX3_greatestOf 1 = .ok (.iconst 0, 1) := dk_3 (dk_at dksX3_greatestOf_0 1 rfl rfl)
theorem dX3_greatestOf_2 : decode cX3_greatestOf 2 = .ok (.putfield 1, 3) := dk_181 0 1 (dk_at dksX3_greatestOf_0 2 rfl rfl)
theorem dX3_greatestOf_5 : decode cX3_greatestOf 5 = .ok (.aload_n 0, 1) := dk_42 (dk_at dksX3_greatestOf_0 5 rfl rfl)
theorem dX3_greatestOf_6 : decode cX3_greatestOf 6 = .ok (.iload_n 1, 1) := dk_27 (dk_at dksX3_greatestOf_0 6 rfl rfl)
theorem dX3_greatestOf_7 : decode cX3_greatestOf 7 = .ok (.invokevirtual 221, 3) := dk_182 0 221 (dk_at dksX3_greatestOf_0 7 rfl rfl)
theorem dX3_greatestOf_10 : decode cX3_greatestOf 10 = .ok (.ifCond .ne 9, 3) := dk_154 0 9 (dk_at dksX3_greatestOf_0 10 rfl rfl)
theorem dX3_greatestOf_13 : decode cX3_greatestOf 13 = .ok (.aload_n 0, 1) := dk_42 (dk_at dksX3_greatestOf_0 13 rfl rfl)
theorem dX3_greatestOf_14 : decode cX3_greatestOf 14 = .ok (.iconst 1, 1) := dk_4 (dk_at dksX3_greatestOf_0 14 rfl rfl)
theorem dX3_greatestOf_15 : decode cX3_greatestOf 15 = .ok (.invokevirtual 190, 3) := dk_182 0 190 (dk_at dksX3_greatestOf_0 15 rfl rfl)
theorem dX3_greatestOf_18 : decode cX3_greatestOf 18 = .ok (.ireturn, 1) := dk_172 (dk_at dksX3_greatestOf_0 18 rfl rfl)
theorem dX3_greatestOf_19 : decode cX3_greatestOf 19 = .ok (.aload_n 0, 1) := dk_42 (dk_at dksX3_greatestOf_0 19 rfl rfl)
theorem dX3_greatestOf_20 : decode cX3_greatestOf 20 = .ok (.iload_n 1, 1) := dk_27 (dk_at dksX3_greatestOf_0 20 rfl rfl)
theorem dX3_greatestOf_21 : decode cX3_greatestOf 21 = .ok (.invokevirtual 224, 3) := dk_182 0 224 (dk_at dksX3_greatestOf_0 21 rfl rfl)
theorem dX3_greatestOf_24 : decode cX3_greatestOf 24 = .ok (.ifCond .ne 9, 3) := dk_154 0 9 (dk_at dksX3_greatestOf_1 0 rfl rfl)
theorem dX3_greatestOf_27 : decode cX3_greatestOf 27 = .ok (.aload_n 0, 1) := dk_42 (dk_at dksX3_greatestOf_1 3 rfl rfl)
theorem dX3_greatestOf_28 : decode cX3_greatestOf 28 = .ok (.iconst 2, 1) := dk_5 (dk_at dksX3_greatestOf_1 4 rfl rfl)
theorem dX3_greatestOf_29 : decode cX3_greatestOf 29 = .ok (.invokevirtual 190, 3) := dk_182 0 190 (dk_at dksX3_greatestOf_1 5 rfl rfl)
theorem dX3_greatestOf_32 : decode cX3_greatestOf 32 = .ok (.ireturn, 1) := dk_172 (dk_at dksX3_greatestOf_1 8 rfl rfl)
theorem dX3_greatestOf_33 : decode cX3_greatestOf 33 = .ok (.aload_n 0, 1) := dk_42 (dk_at dksX3_greatestOf_1 9 rfl rfl)
theorem dX3_greatestOf_34 : decode cX3_greatestOf 34 = .ok (.ldc 236, 2) := dk_18 236 (dk_at dksX3_greatestOf_1 10 rfl rfl)
theorem dX3_greatestOf_36 : decode cX3_greatestOf 36 = .ok (.putfield 227, 3) := dk_181 0 227 (dk_at dksX3_greatestOf_1 12 rfl rfl)
theorem dX3_greatestOf_39 : decode cX3_greatestOf 39 = .ok (.aload_n 0, 1) := dk_42 (dk_at dksX3_greatestOf_1 15 rfl rfl)
theorem dX3_greatestOf_40 : decode cX3_greatestOf 40 = .ok (.iload_n 1, 1) := dk_27 (dk_at dksX3_greatestOf_1 16 rfl rfl)
theorem dX3_greatestOf_41 : decode cX3_greatestOf 41 = .ok (.iload_n 2, 1) := dk_28 (dk_at dksX3_greatestOf_1 17 rfl rfl)
theorem dX3_greatestOf_42 : decode cX3_greatestOf 42 = .ok (.invokevirtual 230, 3) := dk_182 0 230 (dk_at dksX3_greatestOf_1 18 rfl rfl)
theorem dX3_greatestOf_45 : decode cX3_greatestOf 45 = .ok (.aload_n 0, 1) := dk_42 (dk_at dksX3_greatestOf_1 21 rfl rfl)
theorem dX3_greatestOf_46 : decode cX3_greatestOf 46 = .ok (.getfield 227, 3) := dk_180 0 227 (dk_at dksX3_greatestOf_2 0 rfl rfl)
theorem dX3_greatestOf_49 : decode cX3_greatestOf 49 = .ok (.ireturn, 1) := dk_172 (dk_at dksX3_greatestOf_2 3 rfl rfl)
abbrev cX3_greatest : ByteArray := prog_10_method_38_code
def yX3_greatest : MethodName := ⟨RX3, "greatest", "(IZ)V"⟩
def dkwX3_greatest_2 : List UInt8 := [180, 0, 26, 27, 46, 28, 182, 0, 230, 42, 42, 180, 0, 29, 27, 46, 28, 182, 0, 230, 177]
abbrev dktX3_greatest_2 : List UInt8 := dkwX3_greatest_2 ++ []
def dkwX3_greatest_1 : List UInt8 := [42, 180, 0, 17, 27, 46, 167, 0, 9, 42, 180, 0, 20, 27, 46, 184, 0, 215, 181, 0, 227, 42, 42]
abbrev dktX3_greatest_1 : List UInt8 := dkwX3_greatest_1 ++ dktX3_greatest_2
def dkwX3_greatest_0 : List UInt8 := [27, 2, 160, 0, 4, 177, 42, 180, 0, 23, 27, 46, 154, 0, 33, 42, 42, 180, 0, 227, 28, 153, 0, 12]
abbrev dktX3_greatest_0 : List UInt8 := dkwX3_greatest_0 ++ dktX3_greatest_1
theorem dksX3_greatest_0 : cX3_greatest.data.toList.drop 0 = dktX3_greatest_0 := by decide +kernel
theorem dksX3_greatest_1 : cX3_greatest.data.toList.drop 24 = dktX3_greatest_1 := dk_seg dksX3_greatest_0 24 rfl rfl
theorem dksX3_greatest_2 : cX3_greatest.data.toList.drop 47 = dktX3_greatest_2 := dk_seg dksX3_greatest_1 23 rfl rfl
theorem dX3_greatest_0 : decode cX3_greatest 0 = .ok (.iload_n 1, 1) := dk_27 (dk_at dksX3_greatest_0 0 rfl rfl)
theorem dX3_greatest_1 : decode cX3_greatest 1 = .ok (.iconst (-1), 1) := dk_2 (dk_at dksX3_greatest_0 1 rfl rfl)
theorem dX3_greatest_2 : decode cX3_greatest 2 = .ok (.if_icmp .ne 4, 3) := dk_160 0 4 (dk_at dksX3_greatest_0 2 rfl rfl)
theorem dX3_greatest_5 : decode cX3_greatest 5 = .ok (.return_, 1) := dk_177 (dk_at dksX3_greatest_0 5 rfl rfl)
theorem dX3_greatest_6 : decode cX3_greatest 6 = .ok (.aload_n 0, 1) := dk_42 (dk_at dksX3_greatest_0 6 rfl rfl)
theorem dX3_greatest_7 : decode cX3_greatest 7 = .ok (.getfield 23, 3) := dk_180 0 23 (dk_at dksX3_greatest_0 7 rfl rfl)
theorem dX3_greatest_10 : decode cX3_greatest 10 = .ok (.iload_n 1, 1) := dk_27 (dk_at dksX3_greatest_0 10 rfl rfl)
theorem dX3_greatest_11 : decode cX3_greatest 11 = .ok (.iaload, 1) := dk_46 (dk_at dksX3_greatest_0 11 rfl rfl)
theorem dX3_greatest_12 : decode cX3_greatest 12 = .ok (.ifCond .ne 33, 3) := dk_154 0 33 (dk_at dksX3_greatest_0 12 rfl rfl)
theorem dX3_greatest_15 : decode cX3_greatest 15 = .ok (.aload_n 0, 1) := dk_42 (dk_at dksX3_greatest_0 15 rfl rfl)
theorem dX3_greatest_16 : decode cX3_greatest 16 = .ok (.aload_n 0, 1) := dk_42 (dk_at dksX3_greatest_0 16 rfl rfl)
theorem dX3_greatest_17 : decode cX3_greatest 17 = .ok (.getfield 227, 3) := dk_180 0 227 (dk_at dksX3_greatest_0 17 rfl rfl)
theorem dX3_greatest_20 : decode cX3_greatest 20 = .ok (.iload_n 2, 1) := dk_28 (dk_at dksX3_greatest_0 20 rfl rfl)
theorem dX3_greatest_21 : decode cX3_greatest 21 = .ok (.ifCond .eq 12, 3) := dk_153 0 12 (dk_at dksX3_greatest_0 21 rfl rfl)
theorem dX3_greatest_24 : decode cX3_greatest 24 = .ok (.aload_n 0, 1) := dk_42 (dk_at dksX3_greatest_1 0 rfl rfl)
theorem dX3_greatest_25 : decode cX3_greatest 25 = .ok (.getfield 17, 3) := dk_180 0 17 (dk_at dksX3_greatest_1 1 rfl rfl)
theorem dX3_greatest_28 : decode cX3_greatest 28 = .ok (.iload_n 1, 1) := dk_27 (dk_at dksX3_greatest_1 4 rfl rfl)
theorem dX3_greatest_29 : decode cX3_greatest 29 = .ok (.iaload, 1) := dk_46 (dk_at dksX3_greatest_1 5 rfl rfl)
theorem dX3_greatest_30 : decode cX3_greatest 30 = .ok (.goto 9, 3) := dk_167 0 9 (dk_at dksX3_greatest_1 6 rfl rfl)
theorem dX3_greatest_33 : decode cX3_greatest 33 = .ok (.aload_n 0, 1) := dk_42 (dk_at dksX3_greatest_1 9 rfl rfl)
theorem dX3_greatest_34 : decode cX3_greatest 34 = .ok (.getfield 20, 3) := dk_180 0 20 (dk_at dksX3_greatest_1 10 rfl rfl)
theorem dX3_greatest_37 : decode cX3_greatest 37 = .ok (.iload_n 1, 1) := dk_27 (dk_at dksX3_greatest_1 13 rfl rfl)
theorem dX3_greatest_38 : decode cX3_greatest 38 = .ok (.iaload, 1) := dk_46 (dk_at dksX3_greatest_1 14 rfl rfl)
theorem dX3_greatest_39 : decode cX3_greatest 39 = .ok (.invokestatic 215, 3) := dk_184 0 215 (dk_at dksX3_greatest_1 15 rfl rfl)
theorem dX3_greatest_42 : decode cX3_greatest 42 = .ok (.putfield 227, 3) := dk_181 0 227 (dk_at dksX3_greatest_1 18 rfl rfl)
theorem dX3_greatest_45 : decode cX3_greatest 45 = .ok (.aload_n 0, 1) := dk_42 (dk_at dksX3_greatest_1 21 rfl rfl)
theorem dX3_greatest_46 : decode cX3_greatest 46 = .ok (.aload_n 0, 1) := dk_42 (dk_at dksX3_greatest_1 22 rfl rfl)
theorem dX3_greatest_47 : decode cX3_greatest 47 = .ok (.getfield 26, 3) := dk_180 0 26 (dk_at dksX3_greatest_2 0 rfl rfl)
theorem dX3_greatest_50 : decode cX3_greatest 50 = .ok (.iload_n 1, 1) := dk_27 (dk_at dksX3_greatest_2 3 rfl rfl)
theorem dX3_greatest_51 : decode cX3_greatest 51 = .ok (.iaload, 1) := dk_46 (dk_at dksX3_greatest_2 4 rfl rfl)
theorem dX3_greatest_52 : decode cX3_greatest 52 = .ok (.iload_n 2, 1) := dk_28 (dk_at dksX3_greatest_2 5 rfl rfl)
theorem dX3_greatest_53 : decode cX3_greatest 53 = .ok (.invokevirtual 230, 3) := dk_182 0 230 (dk_at dksX3_greatest_2 6 rfl rfl)
theorem dX3_greatest_56 : decode cX3_greatest 56 = .ok (.aload_n 0, 1) := dk_42 (dk_at dksX3_greatest_2 9 rfl rfl)
theorem dX3_greatest_57 : decode cX3_greatest 57 = .ok (.aload_n 0, 1) := dk_42 (dk_at dksX3_greatest_2 10 rfl rfl)
theorem dX3_greatest_58 : decode cX3_greatest 58 = .ok (.getfield 29, 3) := dk_180 0 29 (dk_at dksX3_greatest_2 11 rfl rfl)
theorem dX3_greatest_61 : decode cX3_greatest 61 = .ok (.iload_n 1, 1) := dk_27 (dk_at dksX3_greatest_2 14 rfl rfl)
theorem dX3_greatest_62 : decode cX3_greatest 62 = .ok (.iaload, 1) := dk_46 (dk_at dksX3_greatest_2 15 rfl rfl)
theorem dX3_greatest_63 : decode cX3_greatest 63 = .ok (.iload_n 2, 1) := dk_28 (dk_at dksX3_greatest_2 16 rfl rfl)
theorem dX3_greatest_64 : decode cX3_greatest 64 = .ok (.invokevirtual 230, 3) := dk_182 0 230 (dk_at dksX3_greatest_2 17 rfl rfl)
theorem dX3_greatest_67 : decode cX3_greatest 67 = .ok (.return_, 1) := dk_177 (dk_at dksX3_greatest_2 20 rfl rfl)
abbrev cX3_subtreeWeight : ByteArray := prog_10_method_42_code
def yX3_subtreeWeight : MethodName := ⟨RX3, "subtreeWeight", "(I)I"⟩
def dkwX3_subtreeWeight_0 : List UInt8 := [42, 27, 3, 182, 0, 237, 172]
abbrev dktX3_subtreeWeight_0 : List UInt8 := dkwX3_subtreeWeight_0 ++ []
theorem dksX3_subtreeWeight_0 : cX3_subtreeWeight.data.toList.drop 0 = dktX3_subtreeWeight_0 := by decide +kernel
theorem dX3_subtreeWeight_0 : decode cX3_subtreeWeight 0 = .ok (.aload_n 0, 1) := dk_42 (dk_at dksX3_subtreeWeight_0 0 rfl rfl)
theorem dX3_subtreeWeight_1 : decode cX3_subtreeWeight 1 = .ok (.iload_n 1, 1) := dk_27 (dk_at dksX3_subtreeWeight_0 1 rfl rfl)
theorem dX3_subtreeWeight_2 : decode cX3_subtreeWeight 2 = .ok (.iconst 0, 1) := dk_3 (dk_at dksX3_subtreeWeight_0 2 rfl rfl)
theorem dX3_subtreeWeight_3 : decode cX3_subtreeWeight 3 = .ok (.invokevirtual 237, 3) := dk_182 0 237 (dk_at dksX3_subtreeWeight_0 3 rfl rfl)
theorem dX3_subtreeWeight_6 : decode cX3_subtreeWeight 6 = .ok (.ireturn, 1) := dk_172 (dk_at dksX3_subtreeWeight_0 6 rfl rfl)
abbrev cX3_digest : ByteArray := prog_10_method_45_code
def yX3_digest : MethodName := ⟨RX3, "digest", "()I"⟩
def dkwX3_digest_0 : List UInt8 := [42, 2, 181, 0, 241, 42, 42, 180, 0, 39, 182, 0, 248, 42, 180, 0, 241, 172]
abbrev dktX3_digest_0 : List UInt8 := dkwX3_digest_0 ++ []
theorem dksX3_digest_0 : cX3_digest.data.toList.drop 0 = dktX3_digest_0 := by decide +kernel
theorem dX3_digest_0 : decode cX3_digest 0 = .ok (.aload_n 0, 1) := dk_42 (dk_at dksX3_digest_0 0 rfl rfl)
theorem dX3_digest_1 : decode cX3_digest 1 = .ok (.iconst (-1), 1) := dk_2 (dk_at dksX3_digest_0 1 rfl rfl)
theorem dX3_digest_2 : decode cX3_digest 2 = .ok (.putfield 241, 3) := dk_181 0 241 (dk_at dksX3_digest_0 2 rfl rfl)
theorem dX3_digest_5 : decode cX3_digest 5 = .ok (.aload_n 0, 1) := dk_42 (dk_at dksX3_digest_0 5 rfl rfl)
theorem dX3_digest_6 : decode cX3_digest 6 = .ok (.aload_n 0, 1) := dk_42 (dk_at dksX3_digest_0 6 rfl rfl)
theorem dX3_digest_7 : decode cX3_digest 7 = .ok (.getfield 39, 3) := dk_180 0 39 (dk_at dksX3_digest_0 7 rfl rfl)
theorem dX3_digest_10 : decode cX3_digest 10 = .ok (.invokevirtual 248, 3) := dk_182 0 248 (dk_at dksX3_digest_0 10 rfl rfl)
theorem dX3_digest_13 : decode cX3_digest 13 = .ok (.aload_n 0, 1) := dk_42 (dk_at dksX3_digest_0 13 rfl rfl)
theorem dX3_digest_14 : decode cX3_digest 14 = .ok (.getfield 241, 3) := dk_180 0 241 (dk_at dksX3_digest_0 14 rfl rfl)
theorem dX3_digest_17 : decode cX3_digest 17 = .ok (.ireturn, 1) := dk_172 (dk_at dksX3_digest_0 17 rfl rfl)
abbrev cX3_visits : ByteArray := prog_10_method_44_code
def yX3_visits : MethodName := ⟨RX3, "visits", "(I)V"⟩
def dkwX3_visits_3 : List UInt8 := [42, 180, 0, 29, 27, 46, 182, 0, 248, 177]
abbrev dktX3_visits_3 : List UInt8 := dkwX3_visits_3 ++ []
def dkwX3_visits_2 : List UInt8 := [46, 4, 160, 0, 7, 4, 167, 0, 4, 3, 182, 0, 245, 42, 42, 180, 0, 26, 27, 46, 182, 0, 248, 42]
abbrev dktX3_visits_2 : List UInt8 := dkwX3_visits_2 ++ dktX3_visits_3
def dkwX3_visits_1 : List UInt8 := [42, 42, 180, 0, 35, 27, 51, 153, 0, 7, 4, 167, 0, 4, 3, 182, 0, 245, 42, 42, 180, 0, 23, 27]
abbrev dktX3_visits_1 : List UInt8 := dkwX3_visits_1 ++ dktX3_visits_2
def dkwX3_visits_0 : List UInt8 := [27, 2, 160, 0, 4, 177, 42, 27, 17, 1, 0, 112, 182, 0, 245, 42, 27, 17, 1, 0, 108, 182, 0, 245]
abbrev dktX3_visits_0 : List UInt8 := dkwX3_visits_0 ++ dktX3_visits_1
theorem dksX3_visits_0 : cX3_visits.data.toList.drop 0 = dktX3_visits_0 := by decide +kernel
theorem dksX3_visits_1 : cX3_visits.data.toList.drop 24 = dktX3_visits_1 := dk_seg dksX3_visits_0 24 rfl rfl
theorem dksX3_visits_2 : cX3_visits.data.toList.drop 48 = dktX3_visits_2 := dk_seg dksX3_visits_1 24 rfl rfl
theorem dksX3_visits_3 : cX3_visits.data.toList.drop 72 = dktX3_visits_3 := dk_seg dksX3_visits_2 24 rfl rfl
theorem dX3_visits_0 : decode cX3_visits 0 = .ok (.iload_n 1, 1) := dk_27 (dk_at dksX3_visits_0 0 rfl rfl)
theorem dX3_visits_1 : decode cX3_visits 1 = .ok (.iconst (-1), 1) := dk_2 (dk_at dksX3_visits_0 1 rfl rfl)
theorem dX3_visits_2 : decode cX3_visits 2 = .ok (.if_icmp .ne 4, 3) := dk_160 0 4 (dk_at dksX3_visits_0 2 rfl rfl)
theorem dX3_visits_5 : decode cX3_visits 5 = .ok (.return_, 1) := dk_177 (dk_at dksX3_visits_0 5 rfl rfl)
theorem dX3_visits_6 : decode cX3_visits 6 = .ok (.aload_n 0, 1) := dk_42 (dk_at dksX3_visits_0 6 rfl rfl)
theorem dX3_visits_7 : decode cX3_visits 7 = .ok (.iload_n 1, 1) := dk_27 (dk_at dksX3_visits_0 7 rfl rfl)
theorem dX3_visits_8 : decode cX3_visits 8 = .ok (.sipush 256, 3) := dk_17 1 0 (dk_at dksX3_visits_0 8 rfl rfl)
theorem dX3_visits_11 : decode cX3_visits 11 = .ok (.irem, 1) := dk_112 (dk_at dksX3_visits_0 11 rfl rfl)
theorem dX3_visits_12 : decode cX3_visits 12 = .ok (.invokevirtual 245, 3) := dk_182 0 245 (dk_at dksX3_visits_0 12 rfl rfl)
theorem dX3_visits_15 : decode cX3_visits 15 = .ok (.aload_n 0, 1) := dk_42 (dk_at dksX3_visits_0 15 rfl rfl)
theorem dX3_visits_16 : decode cX3_visits 16 = .ok (.iload_n 1, 1) := dk_27 (dk_at dksX3_visits_0 16 rfl rfl)
theorem dX3_visits_17 : decode cX3_visits 17 = .ok (.sipush 256, 3) := dk_17 1 0 (dk_at dksX3_visits_0 17 rfl rfl)
theorem dX3_visits_20 : decode cX3_visits 20 = .ok (.idiv, 1) := dk_108 (dk_at dksX3_visits_0 20 rfl rfl)
theorem dX3_visits_21 : decode cX3_visits 21 = .ok (.invokevirtual 245, 3) := dk_182 0 245 (dk_at dksX3_visits_0 21 rfl rfl)
theorem dX3_visits_24 : decode cX3_visits 24 = .ok (.aload_n 0, 1) := dk_42 (dk_at dksX3_visits_1 0 rfl rfl)
theorem dX3_visits_25 : decode cX3_visits 25 = .ok (.aload_n 0, 1) := dk_42 (dk_at dksX3_visits_1 1 rfl rfl)
theorem dX3_visits_26 : decode cX3_visits 26 = .ok (.getfield 35, 3) := dk_180 0 35 (dk_at dksX3_visits_1 2 rfl rfl)
theorem dX3_visits_29 : decode cX3_visits 29 = .ok (.iload_n 1, 1) := dk_27 (dk_at dksX3_visits_1 5 rfl rfl)
theorem dX3_visits_30 : decode cX3_visits 30 = .ok (.baload, 1) := dk_51 (dk_at dksX3_visits_1 6 rfl rfl)
theorem dX3_visits_31 : decode cX3_visits 31 = .ok (.ifCond .eq 7, 3) := dk_153 0 7 (dk_at dksX3_visits_1 7 rfl rfl)
theorem dX3_visits_34 : decode cX3_visits 34 = .ok (.iconst 1, 1) := dk_4 (dk_at dksX3_visits_1 10 rfl rfl)
theorem dX3_visits_35 : decode cX3_visits 35 = .ok (.goto 4, 3) := dk_167 0 4 (dk_at dksX3_visits_1 11 rfl rfl)
theorem dX3_visits_38 : decode cX3_visits 38 = .ok (.iconst 0, 1) := dk_3 (dk_at dksX3_visits_1 14 rfl rfl)
theorem dX3_visits_39 : decode cX3_visits 39 = .ok (.invokevirtual 245, 3) := dk_182 0 245 (dk_at dksX3_visits_1 15 rfl rfl)
theorem dX3_visits_42 : decode cX3_visits 42 = .ok (.aload_n 0, 1) := dk_42 (dk_at dksX3_visits_1 18 rfl rfl)
theorem dX3_visits_43 : decode cX3_visits 43 = .ok (.aload_n 0, 1) := dk_42 (dk_at dksX3_visits_1 19 rfl rfl)
theorem dX3_visits_44 : decode cX3_visits 44 = .ok (.getfield 23, 3) := dk_180 0 23 (dk_at dksX3_visits_1 20 rfl rfl)
theorem dX3_visits_47 : decode cX3_visits 47 = .ok (.iload_n 1, 1) := dk_27 (dk_at dksX3_visits_1 23 rfl rfl)
theorem dX3_visits_48 : decode cX3_visits 48 = .ok (.iaload, 1) := dk_46 (dk_at dksX3_visits_2 0 rfl rfl)
theorem dX3_visits_49 : decode cX3_visits 49 = .ok (.iconst 1, 1) := dk_4 (dk_at dksX3_visits_2 1 rfl rfl)
theorem dX3_visits_50 : decode cX3_visits 50 = .ok (.if_icmp .ne 7, 3) := dk_160 0 7 (dk_at dksX3_visits_2 2 rfl rfl)
theorem dX3_visits_53 : decode cX3_visits 53 = .ok (.iconst 1, 1) := dk_4 (dk_at dksX3_visits_2 5 rfl rfl)
theorem dX3_visits_54 : decode cX3_visits 54 = .ok (.goto 4, 3) := dk_167 0 4 (dk_at dksX3_visits_2 6 rfl rfl)
theorem dX3_visits_57 : decode cX3_visits 57 = .ok (.iconst 0, 1) := dk_3 (dk_at dksX3_visits_2 9 rfl rfl)
theorem dX3_visits_58 : decode cX3_visits 58 = .ok (.invokevirtual 245, 3) := dk_182 0 245 (dk_at dksX3_visits_2 10 rfl rfl)
theorem dX3_visits_61 : decode cX3_visits 61 = .ok (.aload_n 0, 1) := dk_42 (dk_at dksX3_visits_2 13 rfl rfl)
theorem dX3_visits_62 : decode cX3_visits 62 = .ok (.aload_n 0, 1) := dk_42 (dk_at dksX3_visits_2 14 rfl rfl)
theorem dX3_visits_63 : decode cX3_visits 63 = .ok (.getfield 26, 3) := dk_180 0 26 (dk_at dksX3_visits_2 15 rfl rfl)
theorem dX3_visits_66 : decode cX3_visits 66 = .ok (.iload_n 1, 1) := dk_27 (dk_at dksX3_visits_2 18 rfl rfl)
theorem dX3_visits_67 : decode cX3_visits 67 = .ok (.iaload, 1) := dk_46 (dk_at dksX3_visits_2 19 rfl rfl)
theorem dX3_visits_68 : decode cX3_visits 68 = .ok (.invokevirtual 248, 3) := dk_182 0 248 (dk_at dksX3_visits_2 20 rfl rfl)
theorem dX3_visits_71 : decode cX3_visits 71 = .ok (.aload_n 0, 1) := dk_42 (dk_at dksX3_visits_2 23 rfl rfl)
theorem dX3_visits_72 : decode cX3_visits 72 = .ok (.aload_n 0, 1) := dk_42 (dk_at dksX3_visits_3 0 rfl rfl)
theorem dX3_visits_73 : decode cX3_visits 73 = .ok (.getfield 29, 3) := dk_180 0 29 (dk_at dksX3_visits_3 1 rfl rfl)
theorem dX3_visits_76 : decode cX3_visits 76 = .ok (.iload_n 1, 1) := dk_27 (dk_at dksX3_visits_3 4 rfl rfl)
theorem dX3_visits_77 : decode cX3_visits 77 = .ok (.iaload, 1) := dk_46 (dk_at dksX3_visits_3 5 rfl rfl)
theorem dX3_visits_78 : decode cX3_visits 78 = .ok (.invokevirtual 248, 3) := dk_182 0 248 (dk_at dksX3_visits_3 6 rfl rfl)
theorem dX3_visits_81 : decode cX3_visits 81 = .ok (.return_, 1) := dk_177 (dk_at dksX3_visits_3 9 rfl rfl)
abbrev cX3_absorbs : ByteArray := prog_10_method_43_code
def yX3_absorbs : MethodName := ⟨RX3, "absorbs", "(I)V"⟩
def dkwX3_absorbs_2 : List UInt8 := [180, 0, 241, 16, 8, 124, 28, 130, 181, 0, 241, 177]
abbrev dktX3_absorbs_2 : List UInt8 := dkwX3_absorbs_2 ++ []
def dkwX3_absorbs_1 : List UInt8 := [160, 0, 12, 28, 4, 124, 18, 244, 130, 167, 0, 6, 28, 4, 124, 61, 132, 3, 1, 167, 255, 227, 42, 42]
abbrev dktX3_absorbs_1 : List UInt8 := dkwX3_absorbs_1 ++ dktX3_absorbs_2
def dkwX3_absorbs_0 : List UInt8 := [42, 180, 0, 241, 27, 130, 17, 0, 255, 126, 61, 3, 62, 29, 16, 8, 162, 0, 29, 28, 4, 126, 4]
abbrev dktX3_absorbs_0 : List UInt8 := dkwX3_absorbs_0 ++ dktX3_absorbs_1
theorem dksX3_absorbs_0 : cX3_absorbs.data.toList.drop 0 = dktX3_absorbs_0 := by decide +kernel
theorem dksX3_absorbs_1 : cX3_absorbs.data.toList.drop 23 = dktX3_absorbs_1 := dk_seg dksX3_absorbs_0 23 rfl rfl
theorem dksX3_absorbs_2 : cX3_absorbs.data.toList.drop 47 = dktX3_absorbs_2 := dk_seg dksX3_absorbs_1 24 rfl rfl
theorem dX3_absorbs_0 : decode cX3_absorbs 0 = .ok (.aload_n 0, 1) := dk_42 (dk_at dksX3_absorbs_0 0 rfl rfl)
theorem dX3_absorbs_1 : decode cX3_absorbs 1 = .ok (.getfield 241, 3) := dk_180 0 241 (dk_at dksX3_absorbs_0 1 rfl rfl)
theorem dX3_absorbs_4 : decode cX3_absorbs 4 = .ok (.iload_n 1, 1) := dk_27 (dk_at dksX3_absorbs_0 4 rfl rfl)
theorem dX3_absorbs_5 : decode cX3_absorbs 5 = .ok (.ixor, 1) := dk_130 (dk_at dksX3_absorbs_0 5 rfl rfl)
theorem dX3_absorbs_6 : decode cX3_absorbs 6 = .ok (.sipush 255, 3) := dk_17 0 255 (dk_at dksX3_absorbs_0 6 rfl rfl)
theorem dX3_absorbs_9 : decode cX3_absorbs 9 = .ok (.iand, 1) := dk_126 (dk_at dksX3_absorbs_0 9 rfl rfl)
theorem dX3_absorbs_10 : decode cX3_absorbs 10 = .ok (.istore_n 2, 1) := dk_61 (dk_at dksX3_absorbs_0 10 rfl rfl)
theorem dX3_absorbs_11 : decode cX3_absorbs 11 = .ok (.iconst 0, 1) := dk_3 (dk_at dksX3_absorbs_0 11 rfl rfl)
theorem dX3_absorbs_12 : decode cX3_absorbs 12 = .ok (.istore_n 3, 1) := dk_62 (dk_at dksX3_absorbs_0 12 rfl rfl)
theorem dX3_absorbs_13 : decode cX3_absorbs 13 = .ok (.iload_n 3, 1) := dk_29 (dk_at dksX3_absorbs_0 13 rfl rfl)
theorem dX3_absorbs_14 : decode cX3_absorbs 14 = .ok (.bipush 8, 2) := dk_16 8 (dk_at dksX3_absorbs_0 14 rfl rfl)
theorem dX3_absorbs_16 : decode cX3_absorbs 16 = .ok (.if_icmp .ge 29, 3) := dk_162 0 29 (dk_at dksX3_absorbs_0 16 rfl rfl)
theorem dX3_absorbs_19 : decode cX3_absorbs 19 = .ok (.iload_n 2, 1) := dk_28 (dk_at dksX3_absorbs_0 19 rfl rfl)
theorem dX3_absorbs_20 : decode cX3_absorbs 20 = .ok (.iconst 1, 1) := dk_4 (dk_at dksX3_absorbs_0 20 rfl rfl)
theorem dX3_absorbs_21 : decode cX3_absorbs 21 = .ok (.iand, 1) := dk_126 (dk_at dksX3_absorbs_0 21 rfl rfl)
theorem dX3_absorbs_22 : decode cX3_absorbs 22 = .ok (.iconst 1, 1) := dk_4 (dk_at dksX3_absorbs_0 22 rfl rfl)
theorem dX3_absorbs_23 : decode cX3_absorbs 23 = .ok (.if_icmp .ne 12, 3) := dk_160 0 12 (dk_at dksX3_absorbs_1 0 rfl rfl)
theorem dX3_absorbs_26 : decode cX3_absorbs 26 = .ok (.iload_n 2, 1) := dk_28 (dk_at dksX3_absorbs_1 3 rfl rfl)
theorem dX3_absorbs_27 : decode cX3_absorbs 27 = .ok (.iconst 1, 1) := dk_4 (dk_at dksX3_absorbs_1 4 rfl rfl)
theorem dX3_absorbs_28 : decode cX3_absorbs 28 = .ok (.iushr, 1) := dk_124 (dk_at dksX3_absorbs_1 5 rfl rfl)
theorem dX3_absorbs_29 : decode cX3_absorbs 29 = .ok (.ldc 244, 2) := dk_18 244 (dk_at dksX3_absorbs_1 6 rfl rfl)
theorem dX3_absorbs_31 : decode cX3_absorbs 31 = .ok (.ixor, 1) := dk_130 (dk_at dksX3_absorbs_1 8 rfl rfl)
theorem dX3_absorbs_32 : decode cX3_absorbs 32 = .ok (.goto 6, 3) := dk_167 0 6 (dk_at dksX3_absorbs_1 9 rfl rfl)
theorem dX3_absorbs_35 : decode cX3_absorbs 35 = .ok (.iload_n 2, 1) := dk_28 (dk_at dksX3_absorbs_1 12 rfl rfl)
theorem dX3_absorbs_36 : decode cX3_absorbs 36 = .ok (.iconst 1, 1) := dk_4 (dk_at dksX3_absorbs_1 13 rfl rfl)
theorem dX3_absorbs_37 : decode cX3_absorbs 37 = .ok (.iushr, 1) := dk_124 (dk_at dksX3_absorbs_1 14 rfl rfl)
theorem dX3_absorbs_38 : decode cX3_absorbs 38 = .ok (.istore_n 2, 1) := dk_61 (dk_at dksX3_absorbs_1 15 rfl rfl)
theorem dX3_absorbs_39 : decode cX3_absorbs 39 = .ok (.iinc 3 1, 3) := dk_132 3 1 (dk_at dksX3_absorbs_1 16 rfl rfl)
theorem dX3_absorbs_42 : decode cX3_absorbs 42 = .ok (.goto (-29), 3) := dk_167 255 227 (dk_at dksX3_absorbs_1 19 rfl rfl)
theorem dX3_absorbs_45 : decode cX3_absorbs 45 = .ok (.aload_n 0, 1) := dk_42 (dk_at dksX3_absorbs_1 22 rfl rfl)
theorem dX3_absorbs_46 : decode cX3_absorbs 46 = .ok (.aload_n 0, 1) := dk_42 (dk_at dksX3_absorbs_1 23 rfl rfl)
theorem dX3_absorbs_47 : decode cX3_absorbs 47 = .ok (.getfield 241, 3) := dk_180 0 241 (dk_at dksX3_absorbs_2 0 rfl rfl)
theorem dX3_absorbs_50 : decode cX3_absorbs 50 = .ok (.bipush 8, 2) := dk_16 8 (dk_at dksX3_absorbs_2 3 rfl rfl)
theorem dX3_absorbs_52 : decode cX3_absorbs 52 = .ok (.iushr, 1) := dk_124 (dk_at dksX3_absorbs_2 5 rfl rfl)
theorem dX3_absorbs_53 : decode cX3_absorbs 53 = .ok (.iload_n 2, 1) := dk_28 (dk_at dksX3_absorbs_2 6 rfl rfl)
theorem dX3_absorbs_54 : decode cX3_absorbs 54 = .ok (.ixor, 1) := dk_130 (dk_at dksX3_absorbs_2 7 rfl rfl)
theorem dX3_absorbs_55 : decode cX3_absorbs 55 = .ok (.putfield 241, 3) := dk_181 0 241 (dk_at dksX3_absorbs_2 8 rfl rfl)
theorem dX3_absorbs_58 : decode cX3_absorbs 58 = .ok (.return_, 1) := dk_177 (dk_at dksX3_absorbs_2 11 rfl rfl)
abbrev cX3_stabCount : ByteArray := prog_10_method_47_code
def yX3_stabCount : MethodName := ⟨RX3, "stabCount", "(I)I"⟩
def dkwX3_stabCount_1 : List UInt8 := [27, 27, 182, 0, 251, 153, 0, 7, 4, 167, 0, 4, 3, 96, 61, 132, 3, 1, 167, 255, 218, 28, 172]
abbrev dktX3_stabCount_1 : List UInt8 := dkwX3_stabCount_1 ++ []
def dkwX3_stabCount_0 : List UInt8 := [3, 61, 3, 62, 29, 42, 180, 0, 42, 162, 0, 36, 28, 42, 180, 0, 23, 29, 46, 154, 0, 17, 42, 29]
abbrev dktX3_stabCount_0 : List UInt8 := dkwX3_stabCount_0 ++ dktX3_stabCount_1
theorem dksX3_stabCount_0 : cX3_stabCount.data.toList.drop 0 = dktX3_stabCount_0 := by decide +kernel
theorem dksX3_stabCount_1 : cX3_stabCount.data.toList.drop 24 = dktX3_stabCount_1 := dk_seg dksX3_stabCount_0 24 rfl rfl
theorem dX3_stabCount_0 : decode cX3_stabCount 0 = .ok (.iconst 0, 1) := dk_3 (dk_at dksX3_stabCount_0 0 rfl rfl)
theorem dX3_stabCount_1 : decode cX3_stabCount 1 = .ok (.istore_n 2, 1) := dk_61 (dk_at dksX3_stabCount_0 1 rfl rfl)
theorem dX3_stabCount_2 : decode cX3_stabCount 2 = .ok (.iconst 0, 1) := dk_3 (dk_at dksX3_stabCount_0 2 rfl rfl)
theorem dX3_stabCount_3 : decode cX3_stabCount 3 = .ok (.istore_n 3, 1) := dk_62 (dk_at dksX3_stabCount_0 3 rfl rfl)
theorem dX3_stabCount_4 : decode cX3_stabCount 4 = .ok (.iload_n 3, 1) := dk_29 (dk_at dksX3_stabCount_0 4 rfl rfl)
theorem dX3_stabCount_5 : decode cX3_stabCount 5 = .ok (.aload_n 0, 1) := dk_42 (dk_at dksX3_stabCount_0 5 rfl rfl)
theorem dX3_stabCount_6 : decode cX3_stabCount 6 = .ok (.getfield 42, 3) := dk_180 0 42 (dk_at dksX3_stabCount_0 6 rfl rfl)
theorem dX3_stabCount_9 : decode cX3_stabCount 9 = .ok (.if_icmp .ge 36, 3) := dk_162 0 36 (dk_at dksX3_stabCount_0 9 rfl rfl)
theorem dX3_stabCount_12 : decode cX3_stabCount 12 = .ok (.iload_n 2, 1) := dk_28 (dk_at dksX3_stabCount_0 12 rfl rfl)
theorem dX3_stabCount_13 : decode cX3_stabCount 13 = .ok (.aload_n 0, 1) := dk_42 (dk_at dksX3_stabCount_0 13 rfl rfl)
theorem dX3_stabCount_14 : decode cX3_stabCount 14 = .ok (.getfield 23, 3) := dk_180 0 23 (dk_at dksX3_stabCount_0 14 rfl rfl)
theorem dX3_stabCount_17 : decode cX3_stabCount 17 = .ok (.iload_n 3, 1) := dk_29 (dk_at dksX3_stabCount_0 17 rfl rfl)
theorem dX3_stabCount_18 : decode cX3_stabCount 18 = .ok (.iaload, 1) := dk_46 (dk_at dksX3_stabCount_0 18 rfl rfl)
theorem dX3_stabCount_19 : decode cX3_stabCount 19 = .ok (.ifCond .ne 17, 3) := dk_154 0 17 (dk_at dksX3_stabCount_0 19 rfl rfl)
theorem dX3_stabCount_22 : decode cX3_stabCount 22 = .ok (.aload_n 0, 1) := dk_42 (dk_at dksX3_stabCount_0 22 rfl rfl)
theorem dX3_stabCount_23 : decode cX3_stabCount 23 = .ok (.iload_n 3, 1) := dk_29 (dk_at dksX3_stabCount_0 23 rfl rfl)
theorem dX3_stabCount_24 : decode cX3_stabCount 24 = .ok (.iload_n 1, 1) := dk_27 (dk_at dksX3_stabCount_1 0 rfl rfl)
theorem dX3_stabCount_25 : decode cX3_stabCount 25 = .ok (.iload_n 1, 1) := dk_27 (dk_at dksX3_stabCount_1 1 rfl rfl)
theorem dX3_stabCount_26 : decode cX3_stabCount 26 = .ok (.invokevirtual 251, 3) := dk_182 0 251 (dk_at dksX3_stabCount_1 2 rfl rfl)
theorem dX3_stabCount_29 : decode cX3_stabCount 29 = .ok (.ifCond .eq 7, 3) := dk_153 0 7 (dk_at dksX3_stabCount_1 5 rfl rfl)
theorem dX3_stabCount_32 : decode cX3_stabCount 32 = .ok (.iconst 1, 1) := dk_4 (dk_at dksX3_stabCount_1 8 rfl rfl)
theorem dX3_stabCount_33 : decode cX3_stabCount 33 = .ok (.goto 4, 3) := dk_167 0 4 (dk_at dksX3_stabCount_1 9 rfl rfl)
theorem dX3_stabCount_36 : decode cX3_stabCount 36 = .ok (.iconst 0, 1) := dk_3 (dk_at dksX3_stabCount_1 12 rfl rfl)
theorem dX3_stabCount_37 : decode cX3_stabCount 37 = .ok (.iadd, 1) := dk_96 (dk_at dksX3_stabCount_1 13 rfl rfl)
theorem dX3_stabCount_38 : decode cX3_stabCount 38 = .ok (.istore_n 2, 1) := dk_61 (dk_at dksX3_stabCount_1 14 rfl rfl)
theorem dX3_stabCount_39 : decode cX3_stabCount 39 = .ok (.iinc 3 1, 3) := dk_132 3 1 (dk_at dksX3_stabCount_1 15 rfl rfl)
theorem dX3_stabCount_42 : decode cX3_stabCount 42 = .ok (.goto (-38), 3) := dk_167 255 218 (dk_at dksX3_stabCount_1 18 rfl rfl)
theorem dX3_stabCount_45 : decode cX3_stabCount 45 = .ok (.iload_n 2, 1) := dk_28 (dk_at dksX3_stabCount_1 21 rfl rfl)
theorem dX3_stabCount_46 : decode cX3_stabCount 46 = .ok (.ireturn, 1) := dk_172 (dk_at dksX3_stabCount_1 22 rfl rfl)
abbrev cX3_overlaps : ByteArray := prog_10_method_46_code
def yX3_overlaps : MethodName := ⟨RX3, "overlaps", "(III)Z"⟩
def dkwX3_overlaps_1 : List UInt8 := [3, 172]
abbrev dktX3_overlaps_1 : List UInt8 := dkwX3_overlaps_1 ++ []
def dkwX3_overlaps_0 : List UInt8 := [42, 180, 0, 13, 27, 46, 29, 163, 0, 17, 28, 42, 180, 0, 17, 27, 46, 163, 0, 7, 4, 167, 0, 4]
abbrev dktX3_overlaps_0 : List UInt8 := dkwX3_overlaps_0 ++ dktX3_overlaps_1
theorem dksX3_overlaps_0 : cX3_overlaps.data.toList.drop 0 = dktX3_overlaps_0 := by decide +kernel
theorem dksX3_overlaps_1 : cX3_overlaps.data.toList.drop 24 = dktX3_overlaps_1 := dk_seg dksX3_overlaps_0 24 rfl rfl
theorem dX3_overlaps_0 : decode cX3_overlaps 0 = .ok (.aload_n 0, 1) := dk_42 (dk_at dksX3_overlaps_0 0 rfl rfl)
theorem dX3_overlaps_1 : decode cX3_overlaps 1 = .ok (.getfield 13, 3) := dk_180 0 13 (dk_at dksX3_overlaps_0 1 rfl rfl)
theorem dX3_overlaps_4 : decode cX3_overlaps 4 = .ok (.iload_n 1, 1) := dk_27 (dk_at dksX3_overlaps_0 4 rfl rfl)
theorem dX3_overlaps_5 : decode cX3_overlaps 5 = .ok (.iaload, 1) := dk_46 (dk_at dksX3_overlaps_0 5 rfl rfl)
theorem dX3_overlaps_6 : decode cX3_overlaps 6 = .ok (.iload_n 3, 1) := dk_29 (dk_at dksX3_overlaps_0 6 rfl rfl)
theorem dX3_overlaps_7 : decode cX3_overlaps 7 = .ok (.if_icmp .gt 17, 3) := dk_163 0 17 (dk_at dksX3_overlaps_0 7 rfl rfl)
theorem dX3_overlaps_10 : decode cX3_overlaps 10 = .ok (.iload_n 2, 1) := dk_28 (dk_at dksX3_overlaps_0 10 rfl rfl)
theorem dX3_overlaps_11 : decode cX3_overlaps 11 = .ok (.aload_n 0, 1) := dk_42 (dk_at dksX3_overlaps_0 11 rfl rfl)
theorem dX3_overlaps_12 : decode cX3_overlaps 12 = .ok (.getfield 17, 3) := dk_180 0 17 (dk_at dksX3_overlaps_0 12 rfl rfl)
theorem dX3_overlaps_15 : decode cX3_overlaps 15 = .ok (.iload_n 1, 1) := dk_27 (dk_at dksX3_overlaps_0 15 rfl rfl)
theorem dX3_overlaps_16 : decode cX3_overlaps 16 = .ok (.iaload, 1) := dk_46 (dk_at dksX3_overlaps_0 16 rfl rfl)
theorem dX3_overlaps_17 : decode cX3_overlaps 17 = .ok (.if_icmp .gt 7, 3) := dk_163 0 7 (dk_at dksX3_overlaps_0 17 rfl rfl)
theorem dX3_overlaps_20 : decode cX3_overlaps 20 = .ok (.iconst 1, 1) := dk_4 (dk_at dksX3_overlaps_0 20 rfl rfl)
theorem dX3_overlaps_21 : decode cX3_overlaps 21 = .ok (.goto 4, 3) := dk_167 0 4 (dk_at dksX3_overlaps_0 21 rfl rfl)
theorem dX3_overlaps_24 : decode cX3_overlaps 24 = .ok (.iconst 0, 1) := dk_3 (dk_at dksX3_overlaps_1 0 rfl rfl)
theorem dX3_overlaps_25 : decode cX3_overlaps 25 = .ok (.ireturn, 1) := dk_172 (dk_at dksX3_overlaps_1 1 rfl rfl)
abbrev cX3_stabWeight : ByteArray := prog_10_method_48_code
def yX3_stabWeight : MethodName := ⟨RX3, "stabWeight", "(I)I"⟩
def dkwX3_stabWeight_2 : List UInt8 := [167, 255, 213, 28, 172]
abbrev dktX3_stabWeight_2 : List UInt8 := dkwX3_stabWeight_2 ++ []
def dkwX3_stabWeight_1 : List UInt8 := [27, 27, 182, 0, 251, 153, 0, 12, 42, 180, 0, 20, 29, 46, 167, 0, 4, 3, 96, 61, 132, 3, 1]
abbrev dktX3_stabWeight_1 : List UInt8 := dkwX3_stabWeight_1 ++ dktX3_stabWeight_2
def dkwX3_stabWeight_0 : List UInt8 := [3, 61, 3, 62, 29, 42, 180, 0, 42, 162, 0, 41, 28, 42, 180, 0, 23, 29, 46, 154, 0, 22, 42, 29]
abbrev dktX3_stabWeight_0 : List UInt8 := dkwX3_stabWeight_0 ++ dktX3_stabWeight_1
theorem dksX3_stabWeight_0 : cX3_stabWeight.data.toList.drop 0 = dktX3_stabWeight_0 := by decide +kernel
theorem dksX3_stabWeight_1 : cX3_stabWeight.data.toList.drop 24 = dktX3_stabWeight_1 := dk_seg dksX3_stabWeight_0 24 rfl rfl
theorem dksX3_stabWeight_2 : cX3_stabWeight.data.toList.drop 47 = dktX3_stabWeight_2 := dk_seg dksX3_stabWeight_1 23 rfl rfl
theorem dX3_stabWeight_0 : decode cX3_stabWeight 0 = .ok (.iconst 0, 1) := dk_3 (dk_at dksX3_stabWeight_0 0 rfl rfl)
theorem dX3_stabWeight_1 : decode cX3_stabWeight 1 = .ok (.istore_n 2, 1) := dk_61 (dk_at dksX3_stabWeight_0 1 rfl rfl)
theorem dX3_stabWeight_2 : decode cX3_stabWeight 2 = .ok (.iconst 0, 1) := dk_3 (dk_at dksX3_stabWeight_0 2 rfl rfl)
theorem dX3_stabWeight_3 : decode cX3_stabWeight 3 = .ok (.istore_n 3, 1) := dk_62 (dk_at dksX3_stabWeight_0 3 rfl rfl)
theorem dX3_stabWeight_4 : decode cX3_stabWeight 4 = .ok (.iload_n 3, 1) := dk_29 (dk_at dksX3_stabWeight_0 4 rfl rfl)
theorem dX3_stabWeight_5 : decode cX3_stabWeight 5 = .ok (.aload_n 0, 1) := dk_42 (dk_at dksX3_stabWeight_0 5 rfl rfl)
theorem dX3_stabWeight_6 : decode cX3_stabWeight 6 = .ok (.getfield 42, 3) := dk_180 0 42 (dk_at dksX3_stabWeight_0 6 rfl rfl)
theorem dX3_stabWeight_9 : decode cX3_stabWeight 9 = .ok (.if_icmp .ge 41, 3) := dk_162 0 41 (dk_at dksX3_stabWeight_0 9 rfl rfl)
theorem dX3_stabWeight_12 : decode cX3_stabWeight 12 = .ok (.iload_n 2, 1) := dk_28 (dk_at dksX3_stabWeight_0 12 rfl rfl)
theorem dX3_stabWeight_13 : decode cX3_stabWeight 13 = .ok (.aload_n 0, 1) := dk_42 (dk_at dksX3_stabWeight_0 13 rfl rfl)
theorem dX3_stabWeight_14 : decode cX3_stabWeight 14 = .ok (.getfield 23, 3) := dk_180 0 23 (dk_at dksX3_stabWeight_0 14 rfl rfl)
theorem dX3_stabWeight_17 : decode cX3_stabWeight 17 = .ok (.iload_n 3, 1) := dk_29 (dk_at dksX3_stabWeight_0 17 rfl rfl)
theorem dX3_stabWeight_18 : decode cX3_stabWeight 18 = .ok (.iaload, 1) := dk_46 (dk_at dksX3_stabWeight_0 18 rfl rfl)
theorem dX3_stabWeight_19 : decode cX3_stabWeight 19 = .ok (.ifCond .ne 22, 3) := dk_154 0 22 (dk_at dksX3_stabWeight_0 19 rfl rfl)
theorem dX3_stabWeight_22 : decode cX3_stabWeight 22 = .ok (.aload_n 0, 1) := dk_42 (dk_at dksX3_stabWeight_0 22 rfl rfl)
theorem dX3_stabWeight_23 : decode cX3_stabWeight 23 = .ok (.iload_n 3, 1) := dk_29 (dk_at dksX3_stabWeight_0 23 rfl rfl)
theorem dX3_stabWeight_24 : decode cX3_stabWeight 24 = .ok (.iload_n 1, 1) := dk_27 (dk_at dksX3_stabWeight_1 0 rfl rfl)
theorem dX3_stabWeight_25 : decode cX3_stabWeight 25 = .ok (.iload_n 1, 1) := dk_27 (dk_at dksX3_stabWeight_1 1 rfl rfl)
theorem dX3_stabWeight_26 : decode cX3_stabWeight 26 = .ok (.invokevirtual 251, 3) := dk_182 0 251 (dk_at dksX3_stabWeight_1 2 rfl rfl)
theorem dX3_stabWeight_29 : decode cX3_stabWeight 29 = .ok (.ifCond .eq 12, 3) := dk_153 0 12 (dk_at dksX3_stabWeight_1 5 rfl rfl)
theorem dX3_stabWeight_32 : decode cX3_stabWeight 32 = .ok (.aload_n 0, 1) := dk_42 (dk_at dksX3_stabWeight_1 8 rfl rfl)
theorem dX3_stabWeight_33 : decode cX3_stabWeight 33 = .ok (.getfield 20, 3) := dk_180 0 20 (dk_at dksX3_stabWeight_1 9 rfl rfl)
theorem dX3_stabWeight_36 : decode cX3_stabWeight 36 = .ok (.iload_n 3, 1) := dk_29 (dk_at dksX3_stabWeight_1 12 rfl rfl)
theorem dX3_stabWeight_37 : decode cX3_stabWeight 37 = .ok (.iaload, 1) := dk_46 (dk_at dksX3_stabWeight_1 13 rfl rfl)
theorem dX3_stabWeight_38 : decode cX3_stabWeight 38 = .ok (.goto 4, 3) := dk_167 0 4 (dk_at dksX3_stabWeight_1 14 rfl rfl)
theorem dX3_stabWeight_41 : decode cX3_stabWeight 41 = .ok (.iconst 0, 1) := dk_3 (dk_at dksX3_stabWeight_1 17 rfl rfl)
theorem dX3_stabWeight_42 : decode cX3_stabWeight 42 = .ok (.iadd, 1) := dk_96 (dk_at dksX3_stabWeight_1 18 rfl rfl)
theorem dX3_stabWeight_43 : decode cX3_stabWeight 43 = .ok (.istore_n 2, 1) := dk_61 (dk_at dksX3_stabWeight_1 19 rfl rfl)
theorem dX3_stabWeight_44 : decode cX3_stabWeight 44 = .ok (.iinc 3 1, 3) := dk_132 3 1 (dk_at dksX3_stabWeight_1 20 rfl rfl)
theorem dX3_stabWeight_47 : decode cX3_stabWeight 47 = .ok (.goto (-43), 3) := dk_167 255 213 (dk_at dksX3_stabWeight_2 0 rfl rfl)
theorem dX3_stabWeight_50 : decode cX3_stabWeight 50 = .ok (.iload_n 2, 1) := dk_28 (dk_at dksX3_stabWeight_2 3 rfl rfl)
theorem dX3_stabWeight_51 : decode cX3_stabWeight 51 = .ok (.ireturn, 1) := dk_172 (dk_at dksX3_stabWeight_2 4 rfl rfl)
abbrev cX3_heaviest : ByteArray := prog_10_method_50_code
def yX3_heaviest : MethodName := ⟨RX3, "heaviest", "(II)I"⟩
def dkwX3_heaviest_1 : List UInt8 := [172]
abbrev dktX3_heaviest_1 : List UInt8 := dkwX3_heaviest_1 ++ []
def dkwX3_heaviest_0 : List UInt8 := [42, 3, 181, 0, 1, 28, 156, 0, 11, 42, 4, 182, 0, 190, 167, 0, 10, 42, 27, 27, 28, 182, 0, 254]
abbrev dktX3_heaviest_0 : List UInt8 := dkwX3_heaviest_0 ++ dktX3_heaviest_1
theorem dksX3_heaviest_0 : cX3_heaviest.data.toList.drop 0 = dktX3_heaviest_0 := by decide +kernel
theorem dksX3_heaviest_1 : cX3_heaviest.data.toList.drop 24 = dktX3_heaviest_1 := dk_seg dksX3_heaviest_0 24 rfl rfl
theorem dX3_heaviest_0 : decode cX3_heaviest 0 = .ok (.aload_n 0, 1) := dk_42 (dk_at dksX3_heaviest_0 0 rfl rfl)
theorem dX3_heaviest_1 : decode cX3_heaviest 1 = .ok (.iconst 0, 1) := dk_3 (dk_at dksX3_heaviest_0 1 rfl rfl)
theorem dX3_heaviest_2 : decode cX3_heaviest 2 = .ok (.putfield 1, 3) := dk_181 0 1 (dk_at dksX3_heaviest_0 2 rfl rfl)
theorem dX3_heaviest_5 : decode cX3_heaviest 5 = .ok (.iload_n 2, 1) := dk_28 (dk_at dksX3_heaviest_0 5 rfl rfl)
theorem dX3_heaviest_6 : decode cX3_heaviest 6 = .ok (.ifCond .ge 11, 3) := dk_156 0 11 (dk_at dksX3_heaviest_0 6 rfl rfl)
theorem dX3_heaviest_9 : decode cX3_heaviest 9 = .ok (.aload_n 0, 1) := dk_42 (dk_at dksX3_heaviest_0 9 rfl rfl)
theorem dX3_heaviest_10 : decode cX3_heaviest 10 = .ok (.iconst 1, 1) := dk_4 (dk_at dksX3_heaviest_0 10 rfl rfl)
theorem dX3_heaviest_11 : decode cX3_heaviest 11 = .ok (.invokevirtual 190, 3) := dk_182 0 190 (dk_at dksX3_heaviest_0 11 rfl rfl)
theorem dX3_heaviest_14 : decode cX3_heaviest 14 = .ok (.goto 10, 3) := dk_167 0 10 (dk_at dksX3_heaviest_0 14 rfl rfl)
theorem dX3_heaviest_17 : decode cX3_heaviest 17 = .ok (.aload_n 0, 1) := dk_42 (dk_at dksX3_heaviest_0 17 rfl rfl)
theorem dX3_heaviest_18 : decode cX3_heaviest 18 = .ok (.iload_n 1, 1) := dk_27 (dk_at dksX3_heaviest_0 18 rfl rfl)
theorem dX3_heaviest_19 : decode cX3_heaviest 19 = .ok (.iload_n 1, 1) := dk_27 (dk_at dksX3_heaviest_0 19 rfl rfl)
theorem dX3_heaviest_20 : decode cX3_heaviest 20 = .ok (.iload_n 2, 1) := dk_28 (dk_at dksX3_heaviest_0 20 rfl rfl)
theorem dX3_heaviest_21 : decode cX3_heaviest 21 = .ok (.invokevirtual 254, 3) := dk_182 0 254 (dk_at dksX3_heaviest_0 21 rfl rfl)
theorem dX3_heaviest_24 : decode cX3_heaviest 24 = .ok (.ireturn, 1) := dk_172 (dk_at dksX3_heaviest_1 0 rfl rfl)
abbrev cX3_ranked : ByteArray := prog_10_method_49_code
def yX3_ranked : MethodName := ⟨RX3, "ranked", "(III)I"⟩
def dkwX3_ranked_6 : List UInt8 := [132, 4, 1, 167, 255, 118, 2, 172]
abbrev dktX3_ranked_6 : List UInt8 := dkwX3_ranked_6 ++ []
def dkwX3_ranked_5 : List UInt8 := [167, 0, 4, 3, 96, 54, 5, 132, 6, 1, 167, 255, 172, 21, 5, 29, 160, 0, 6, 21, 4, 172]
abbrev dktX3_ranked_5 : List UInt8 := dkwX3_ranked_5 ++ dktX3_ranked_6
def dkwX3_ranked_4 : List UInt8 := [180, 0, 20, 21, 6, 46, 42, 180, 0, 20, 21, 4, 46, 160, 0, 14, 21, 6, 21, 4, 162, 0, 7, 4]
abbrev dktX3_ranked_4 : List UInt8 := dkwX3_ranked_4 ++ dktX3_ranked_5
def dkwX3_ranked_3 : List UInt8 := [182, 0, 251, 153, 0, 48, 42, 180, 0, 20, 21, 6, 46, 42, 180, 0, 20, 21, 4, 46, 163, 0, 27, 42]
abbrev dktX3_ranked_3 : List UInt8 := dkwX3_ranked_3 ++ dktX3_ranked_4
def dkwX3_ranked_2 : List UInt8 := [180, 0, 42, 162, 0, 81, 21, 5, 42, 180, 0, 23, 21, 6, 46, 154, 0, 59, 42, 21, 6, 27, 28]
abbrev dktX3_ranked_2 : List UInt8 := dkwX3_ranked_2 ++ dktX3_ranked_3
def dkwX3_ranked_1 : List UInt8 := [21, 4, 27, 28, 182, 0, 251, 154, 0, 6, 167, 0, 105, 3, 54, 5, 3, 54, 6, 21, 6, 42]
abbrev dktX3_ranked_1 : List UInt8 := dkwX3_ranked_1 ++ dktX3_ranked_2
def dkwX3_ranked_0 : List UInt8 := [3, 54, 4, 21, 4, 42, 180, 0, 42, 162, 0, 135, 42, 180, 0, 23, 21, 4, 46, 154, 0, 119, 42]
abbrev dktX3_ranked_0 : List UInt8 := dkwX3_ranked_0 ++ dktX3_ranked_1
theorem dksX3_ranked_0 : cX3_ranked.data.toList.drop 0 = dktX3_ranked_0 := by decide +kernel
theorem dksX3_ranked_1 : cX3_ranked.data.toList.drop 23 = dktX3_ranked_1 := dk_seg dksX3_ranked_0 23 rfl rfl
theorem dksX3_ranked_2 : cX3_ranked.data.toList.drop 45 = dktX3_ranked_2 := dk_seg dksX3_ranked_1 22 rfl rfl
theorem dksX3_ranked_3 : cX3_ranked.data.toList.drop 68 = dktX3_ranked_3 := dk_seg dksX3_ranked_2 23 rfl rfl
theorem dksX3_ranked_4 : cX3_ranked.data.toList.drop 92 = dktX3_ranked_4 := dk_seg dksX3_ranked_3 24 rfl rfl
theorem dksX3_ranked_5 : cX3_ranked.data.toList.drop 116 = dktX3_ranked_5 := dk_seg dksX3_ranked_4 24 rfl rfl
theorem dksX3_ranked_6 : cX3_ranked.data.toList.drop 138 = dktX3_ranked_6 := dk_seg dksX3_ranked_5 22 rfl rfl
theorem dX3_ranked_0 : decode cX3_ranked 0 = .ok (.iconst 0, 1) := dk_3 (dk_at dksX3_ranked_0 0 rfl rfl)
theorem dX3_ranked_1 : decode cX3_ranked 1 = .ok (.istore 4, 2) := dk_54 4 (dk_at dksX3_ranked_0 1 rfl rfl)
theorem dX3_ranked_3 : decode cX3_ranked 3 = .ok (.iload 4, 2) := dk_21 4 (dk_at dksX3_ranked_0 3 rfl rfl)
theorem dX3_ranked_5 : decode cX3_ranked 5 = .ok (.aload_n 0, 1) := dk_42 (dk_at dksX3_ranked_0 5 rfl rfl)
theorem dX3_ranked_6 : decode cX3_ranked 6 = .ok (.getfield 42, 3) := dk_180 0 42 (dk_at dksX3_ranked_0 6 rfl rfl)
theorem dX3_ranked_9 : decode cX3_ranked 9 = .ok (.if_icmp .ge 135, 3) := dk_162 0 135 (dk_at dksX3_ranked_0 9 rfl rfl)
theorem dX3_ranked_12 : decode cX3_ranked 12 = .ok (.aload_n 0, 1) := dk_42 (dk_at dksX3_ranked_0 12 rfl rfl)
theorem dX3_ranked_13 : decode cX3_ranked 13 = .ok (.getfield 23, 3) := dk_180 0 23 (dk_at dksX3_ranked_0 13 rfl rfl)
theorem dX3_ranked_16 : decode cX3_ranked 16 = .ok (.iload 4, 2) := dk_21 4 (dk_at dksX3_ranked_0 16 rfl rfl)
theorem dX3_ranked_18 : decode cX3_ranked 18 = .ok (.iaload, 1) := dk_46 (dk_at dksX3_ranked_0 18 rfl rfl)
theorem dX3_ranked_19 : decode cX3_ranked 19 = .ok (.ifCond .ne 119, 3) := dk_154 0 119 (dk_at dksX3_ranked_0 19 rfl rfl)
theorem dX3_ranked_22 : decode cX3_ranked 22 = .ok (.aload_n 0, 1) := dk_42 (dk_at dksX3_ranked_0 22 rfl rfl)
theorem dX3_ranked_23 : decode cX3_ranked 23 = .ok (.iload 4, 2) := dk_21 4 (dk_at dksX3_ranked_1 0 rfl rfl)
theorem dX3_ranked_25 : decode cX3_ranked 25 = .ok (.iload_n 1, 1) := dk_27 (dk_at dksX3_ranked_1 2 rfl rfl)
theorem dX3_ranked_26 : decode cX3_ranked 26 = .ok (.iload_n 2, 1) := dk_28 (dk_at dksX3_ranked_1 3 rfl rfl)
theorem dX3_ranked_27 : decode cX3_ranked 27 = .ok (.invokevirtual 251, 3) := dk_182 0 251 (dk_at dksX3_ranked_1 4 rfl rfl)
theorem dX3_ranked_30 : decode cX3_ranked 30 = .ok (.ifCond .ne 6, 3) := dk_154 0 6 (dk_at dksX3_ranked_1 7 rfl rfl)
theorem dX3_ranked_33 : decode cX3_ranked 33 = .ok (.goto 105, 3) := dk_167 0 105 (dk_at dksX3_ranked_1 10 rfl rfl)
theorem dX3_ranked_36 : decode cX3_ranked 36 = .ok (.iconst 0, 1) := dk_3 (dk_at dksX3_ranked_1 13 rfl rfl)
theorem dX3_ranked_37 : decode cX3_ranked 37 = .ok (.istore 5, 2) := dk_54 5 (dk_at dksX3_ranked_1 14 rfl rfl)
theorem dX3_ranked_39 : decode cX3_ranked 39 = .ok (.iconst 0, 1) := dk_3 (dk_at dksX3_ranked_1 16 rfl rfl)
theorem dX3_ranked_40 : decode cX3_ranked 40 = .ok (.istore 6, 2) := dk_54 6 (dk_at dksX3_ranked_1 17 rfl rfl)
theorem dX3_ranked_42 : decode cX3_ranked 42 = .ok (.iload 6, 2) := dk_21 6 (dk_at dksX3_ranked_1 19 rfl rfl)
theorem dX3_ranked_44 : decode cX3_ranked 44 = .ok (.aload_n 0, 1) := dk_42 (dk_at dksX3_ranked_1 21 rfl rfl)
theorem dX3_ranked_45 : decode cX3_ranked 45 = .ok (.getfield 42, 3) := dk_180 0 42 (dk_at dksX3_ranked_2 0 rfl rfl)
theorem dX3_ranked_48 : decode cX3_ranked 48 = .ok (.if_icmp .ge 81, 3) := dk_162 0 81 (dk_at dksX3_ranked_2 3 rfl rfl)
theorem dX3_ranked_51 : decode cX3_ranked 51 = .ok (.iload 5, 2) := dk_21 5 (dk_at dksX3_ranked_2 6 rfl rfl)
theorem dX3_ranked_53 : decode cX3_ranked 53 = .ok (.aload_n 0, 1) := dk_42 (dk_at dksX3_ranked_2 8 rfl rfl)
theorem dX3_ranked_54 : decode cX3_ranked 54 = .ok (.getfield 23, 3) := dk_180 0 23 (dk_at dksX3_ranked_2 9 rfl rfl)
theorem dX3_ranked_57 : decode cX3_ranked 57 = .ok (.iload 6, 2) := dk_21 6 (dk_at dksX3_ranked_2 12 rfl rfl)
theorem dX3_ranked_59 : decode cX3_ranked 59 = .ok (.iaload, 1) := dk_46 (dk_at dksX3_ranked_2 14 rfl rfl)
theorem dX3_ranked_60 : decode cX3_ranked 60 = .ok (.ifCond .ne 59, 3) := dk_154 0 59 (dk_at dksX3_ranked_2 15 rfl rfl)
theorem dX3_ranked_63 : decode cX3_ranked 63 = .ok (.aload_n 0, 1) := dk_42 (dk_at dksX3_ranked_2 18 rfl rfl)
theorem dX3_ranked_64 : decode cX3_ranked 64 = .ok (.iload 6, 2) := dk_21 6 (dk_at dksX3_ranked_2 19 rfl rfl)
theorem dX3_ranked_66 : decode cX3_ranked 66 = .ok (.iload_n 1, 1) := dk_27 (dk_at dksX3_ranked_2 21 rfl rfl)
theorem dX3_ranked_67 : decode cX3_ranked 67 = .ok (.iload_n 2, 1) := dk_28 (dk_at dksX3_ranked_2 22 rfl rfl)
theorem dX3_ranked_68 : decode cX3_ranked 68 = .ok (.invokevirtual 251, 3) := dk_182 0 251 (dk_at dksX3_ranked_3 0 rfl rfl)
theorem dX3_ranked_71 : decode cX3_ranked 71 = .ok (.ifCond .eq 48, 3) := dk_153 0 48 (dk_at dksX3_ranked_3 3 rfl rfl)
theorem dX3_ranked_74 : decode cX3_ranked 74 = .ok (.aload_n 0, 1) := dk_42 (dk_at dksX3_ranked_3 6 rfl rfl)
theorem dX3_ranked_75 : decode cX3_ranked 75 = .ok (.getfield 20, 3) := dk_180 0 20 (dk_at dksX3_ranked_3 7 rfl rfl)
theorem dX3_ranked_78 : decode cX3_ranked 78 = .ok (.iload 6, 2) := dk_21 6 (dk_at dksX3_ranked_3 10 rfl rfl)
theorem dX3_ranked_80 : decode cX3_ranked 80 = .ok (.iaload, 1) := dk_46 (dk_at dksX3_ranked_3 12 rfl rfl)
theorem dX3_ranked_81 : decode cX3_ranked 81 = .ok (.aload_n 0, 1) := dk_42 (dk_at dksX3_ranked_3 13 rfl rfl)
theorem dX3_ranked_82 : decode cX3_ranked 82 = .ok (.getfield 20, 3) := dk_180 0 20 (dk_at dksX3_ranked_3 14 rfl rfl)
theorem dX3_ranked_85 : decode cX3_ranked 85 = .ok (.iload 4, 2) := dk_21 4 (dk_at dksX3_ranked_3 17 rfl rfl)
theorem dX3_ranked_87 : decode cX3_ranked 87 = .ok (.iaload, 1) := dk_46 (dk_at dksX3_ranked_3 19 rfl rfl)
theorem dX3_ranked_88 : decode cX3_ranked 88 = .ok (.if_icmp .gt 27, 3) := dk_163 0 27 (dk_at dksX3_ranked_3 20 rfl rfl)
theorem dX3_ranked_91 : decode cX3_ranked 91 = .ok (.aload_n 0, 1) := dk_42 (dk_at dksX3_ranked_3 23 rfl rfl)
theorem dX3_ranked_92 : decode cX3_ranked 92 = .ok (.getfield 20, 3) := dk_180 0 20 (dk_at dksX3_ranked_4 0 rfl rfl)
theorem dX3_ranked_95 : decode cX3_ranked 95 = .ok (.iload 6, 2) := dk_21 6 (dk_at dksX3_ranked_4 3 rfl rfl)
theorem dX3_ranked_97 : decode cX3_ranked 97 = .ok (.iaload, 1) := dk_46 (dk_at dksX3_ranked_4 5 rfl rfl)
theorem dX3_ranked_98 : decode cX3_ranked 98 = .ok (.aload_n 0, 1) := dk_42 (dk_at dksX3_ranked_4 6 rfl rfl)
theorem dX3_ranked_99 : decode cX3_ranked 99 = .ok (.getfield 20, 3) := dk_180 0 20 (dk_at dksX3_ranked_4 7 rfl rfl)
theorem dX3_ranked_102 : decode cX3_ranked 102 = .ok (.iload 4, 2) := dk_21 4 (dk_at dksX3_ranked_4 10 rfl rfl)
theorem dX3_ranked_104 : decode cX3_ranked 104 = .ok (.iaload, 1) := dk_46 (dk_at dksX3_ranked_4 12 rfl rfl)
theorem dX3_ranked_105 : decode cX3_ranked 105 = .ok (.if_icmp .ne 14, 3) := dk_160 0 14 (dk_at dksX3_ranked_4 13 rfl rfl)
theorem dX3_ranked_108 : decode cX3_ranked 108 = .ok (.iload 6, 2) := dk_21 6 (dk_at dksX3_ranked_4 16 rfl rfl)
theorem dX3_ranked_110 : decode cX3_ranked 110 = .ok (.iload 4, 2) := dk_21 4 (dk_at dksX3_ranked_4 18 rfl rfl)
theorem dX3_ranked_112 : decode cX3_ranked 112 = .ok (.if_icmp .ge 7, 3) := dk_162 0 7 (dk_at dksX3_ranked_4 20 rfl rfl)
theorem dX3_ranked_115 : decode cX3_ranked 115 = .ok (.iconst 1, 1) := dk_4 (dk_at dksX3_ranked_4 23 rfl rfl)
theorem dX3_ranked_116 : decode cX3_ranked 116 = .ok (.goto 4, 3) := dk_167 0 4 (dk_at dksX3_ranked_5 0 rfl rfl)
theorem dX3_ranked_119 : decode cX3_ranked 119 = .ok (.iconst 0, 1) := dk_3 (dk_at dksX3_ranked_5 3 rfl rfl)
theorem dX3_ranked_120 : decode cX3_ranked 120 = .ok (.iadd, 1) := dk_96 (dk_at dksX3_ranked_5 4 rfl rfl)
theorem dX3_ranked_121 : decode cX3_ranked 121 = .ok (.istore 5, 2) := dk_54 5 (dk_at dksX3_ranked_5 5 rfl rfl)
theorem dX3_ranked_123 : decode cX3_ranked 123 = .ok (.iinc 6 1, 3) := dk_132 6 1 (dk_at dksX3_ranked_5 7 rfl rfl)
theorem dX3_ranked_126 : decode cX3_ranked 126 = .ok (.goto (-84), 3) := dk_167 255 172 (dk_at dksX3_ranked_5 10 rfl rfl)
theorem dX3_ranked_129 : decode cX3_ranked 129 = .ok (.iload 5, 2) := dk_21 5 (dk_at dksX3_ranked_5 13 rfl rfl)
theorem dX3_ranked_131 : decode cX3_ranked 131 = .ok (.iload_n 3, 1) := dk_29 (dk_at dksX3_ranked_5 15 rfl rfl)
theorem dX3_ranked_132 : decode cX3_ranked 132 = .ok (.if_icmp .ne 6, 3) := dk_160 0 6 (dk_at dksX3_ranked_5 16 rfl rfl)
theorem dX3_ranked_135 : decode cX3_ranked 135 = .ok (.iload 4, 2) := dk_21 4 (dk_at dksX3_ranked_5 19 rfl rfl)
theorem dX3_ranked_137 : decode cX3_ranked 137 = .ok (.ireturn, 1) := dk_172 (dk_at dksX3_ranked_5 21 rfl rfl)
theorem dX3_ranked_138 : decode cX3_ranked 138 = .ok (.iinc 4 1, 3) := dk_132 4 1 (dk_at dksX3_ranked_6 0 rfl rfl)
theorem dX3_ranked_141 : decode cX3_ranked 141 = .ok (.goto (-138), 3) := dk_167 255 118 (dk_at dksX3_ranked_6 3 rfl rfl)
theorem dX3_ranked_144 : decode cX3_ranked 144 = .ok (.iconst (-1), 1) := dk_2 (dk_at dksX3_ranked_6 6 rfl rfl)
theorem dX3_ranked_145 : decode cX3_ranked 145 = .ok (.ireturn, 1) := dk_172 (dk_at dksX3_ranked_6 7 rfl rfl)
abbrev cX3_heaviestOverlap : ByteArray := prog_10_method_51_code
def yX3_heaviestOverlap : MethodName := ⟨RX3, "heaviestOverlap", "(III)I"⟩
def dkwX3_heaviestOverlap_1 : List UInt8 := [28, 29, 182, 0, 254, 172]
abbrev dktX3_heaviestOverlap_1 : List UInt8 := dkwX3_heaviestOverlap_1 ++ []
def dkwX3_heaviestOverlap_0 : List UInt8 := [42, 3, 181, 0, 1, 27, 28, 163, 0, 7, 29, 156, 0, 11, 42, 4, 182, 0, 190, 167, 0, 10, 42, 27]
abbrev dktX3_heaviestOverlap_0 : List UInt8 := dkwX3_heaviestOverlap_0 ++ dktX3_heaviestOverlap_1
theorem dksX3_heaviestOverlap_0 : cX3_heaviestOverlap.data.toList.drop 0 = dktX3_heaviestOverlap_0 := by decide +kernel
theorem dksX3_heaviestOverlap_1 : cX3_heaviestOverlap.data.toList.drop 24 = dktX3_heaviestOverlap_1 := dk_seg dksX3_heaviestOverlap_0 24 rfl rfl
theorem dX3_heaviestOverlap_0 : decode cX3_heaviestOverlap 0 = .ok (.aload_n 0, 1) := dk_42 (dk_at dksX3_heaviestOverlap_0 0 rfl rfl)
theorem dX3_heaviestOverlap_1 : decode cX3_heaviestOverlap 1 = .ok (.iconst 0, 1) := dk_3 (dk_at dksX3_heaviestOverlap_0 1 rfl rfl)
theorem dX3_heaviestOverlap_2 : decode cX3_heaviestOverlap 2 = .ok (.putfield 1, 3) := dk_181 0 1 (dk_at dksX3_heaviestOverlap_0 2 rfl rfl)
theorem dX3_heaviestOverlap_5 : decode cX3_heaviestOverlap 5 = .ok (.iload_n 1, 1) := dk_27 (dk_at dksX3_heaviestOverlap_0 5 rfl rfl)
theorem dX3_heaviestOverlap_6 : decode cX3_heaviestOverlap 6 = .ok (.iload_n 2, 1) := dk_28 (dk_at dksX3_heaviestOverlap_0 6 rfl rfl)
theorem dX3_heaviestOverlap_7 : decode cX3_heaviestOverlap 7 = .ok (.if_icmp .gt 7, 3) := dk_163 0 7 (dk_at dksX3_heaviestOverlap_0 7 rfl rfl)
theorem dX3_heaviestOverlap_10 : decode cX3_heaviestOverlap 10 = .ok (.iload_n 3, 1) := dk_29 (dk_at dksX3_heaviestOverlap_0 10 rfl rfl)
theorem dX3_heaviestOverlap_11 : decode cX3_heaviestOverlap 11 = .ok (.ifCond .ge 11, 3) := dk_156 0 11 (dk_at dksX3_heaviestOverlap_0 11 rfl rfl)
theorem dX3_heaviestOverlap_14 : decode cX3_heaviestOverlap 14 = .ok (.aload_n 0, 1) := dk_42 (dk_at dksX3_heaviestOverlap_0 14 rfl rfl)
theorem dX3_heaviestOverlap_15 : decode cX3_heaviestOverlap 15 = .ok (.iconst 1, 1) := dk_4 (dk_at dksX3_heaviestOverlap_0 15 rfl rfl)
theorem dX3_heaviestOverlap_16 : decode cX3_heaviestOverlap 16 = .ok (.invokevirtual 190, 3) := dk_182 0 190 (dk_at dksX3_heaviestOverlap_0 16 rfl rfl)
theorem dX3_heaviestOverlap_19 : decode cX3_heaviestOverlap 19 = .ok (.goto 10, 3) := dk_167 0 10 (dk_at dksX3_heaviestOverlap_0 19 rfl rfl)
theorem dX3_heaviestOverlap_22 : decode cX3_heaviestOverlap 22 = .ok (.aload_n 0, 1) := dk_42 (dk_at dksX3_heaviestOverlap_0 22 rfl rfl)
theorem dX3_heaviestOverlap_23 : decode cX3_heaviestOverlap 23 = .ok (.iload_n 1, 1) := dk_27 (dk_at dksX3_heaviestOverlap_0 23 rfl rfl)
theorem dX3_heaviestOverlap_24 : decode cX3_heaviestOverlap 24 = .ok (.iload_n 2, 1) := dk_28 (dk_at dksX3_heaviestOverlap_1 0 rfl rfl)
theorem dX3_heaviestOverlap_25 : decode cX3_heaviestOverlap 25 = .ok (.iload_n 3, 1) := dk_29 (dk_at dksX3_heaviestOverlap_1 1 rfl rfl)
theorem dX3_heaviestOverlap_26 : decode cX3_heaviestOverlap 26 = .ok (.invokevirtual 254, 3) := dk_182 0 254 (dk_at dksX3_heaviestOverlap_1 2 rfl rfl)
theorem dX3_heaviestOverlap_29 : decode cX3_heaviestOverlap 29 = .ok (.ireturn, 1) := dk_172 (dk_at dksX3_heaviestOverlap_1 5 rfl rfl)
abbrev cX3_firstOverlap : ByteArray := prog_10_method_52_code
def yX3_firstOverlap : MethodName := ⟨RX3, "firstOverlap", "(II)I"⟩
def dkwX3_firstOverlap_2 : List UInt8 := [180, 0, 60, 29, 46, 172, 132, 3, 1, 167, 255, 223, 2, 172]
abbrev dktX3_firstOverlap_2 : List UInt8 := dkwX3_firstOverlap_2 ++ []
def dkwX3_firstOverlap_1 : List UInt8 := [180, 0, 63, 162, 0, 31, 42, 42, 180, 0, 60, 29, 46, 27, 28, 182, 0, 251, 153, 0, 10, 42]
abbrev dktX3_firstOverlap_1 : List UInt8 := dkwX3_firstOverlap_1 ++ dktX3_firstOverlap_2
def dkwX3_firstOverlap_0 : List UInt8 := [42, 3, 181, 0, 1, 27, 28, 164, 0, 9, 42, 4, 182, 0, 190, 172, 42, 182, 0, 187, 3, 62, 29, 42]
abbrev dktX3_firstOverlap_0 : List UInt8 := dkwX3_firstOverlap_0 ++ dktX3_firstOverlap_1
theorem dksX3_firstOverlap_0 : cX3_firstOverlap.data.toList.drop 0 = dktX3_firstOverlap_0 := by decide +kernel
theorem dksX3_firstOverlap_1 : cX3_firstOverlap.data.toList.drop 24 = dktX3_firstOverlap_1 := dk_seg dksX3_firstOverlap_0 24 rfl rfl
theorem dksX3_firstOverlap_2 : cX3_firstOverlap.data.toList.drop 46 = dktX3_firstOverlap_2 := dk_seg dksX3_firstOverlap_1 22 rfl rfl
theorem dX3_firstOverlap_0 : decode cX3_firstOverlap 0 = .ok (.aload_n 0, 1) := dk_42 (dk_at dksX3_firstOverlap_0 0 rfl rfl)
theorem dX3_firstOverlap_1 : decode cX3_firstOverlap 1 = .ok (.iconst 0, 1) := dk_3 (dk_at dksX3_firstOverlap_0 1 rfl rfl)
theorem dX3_firstOverlap_2 : decode cX3_firstOverlap 2 = .ok (.putfield 1, 3) := dk_181 0 1 (dk_at dksX3_firstOverlap_0 2 rfl rfl)
theorem dX3_firstOverlap_5 : decode cX3_firstOverlap 5 = .ok (.iload_n 1, 1) := dk_27 (dk_at dksX3_firstOverlap_0 5 rfl rfl)
theorem dX3_firstOverlap_6 : decode cX3_firstOverlap 6 = .ok (.iload_n 2, 1) := dk_28 (dk_at dksX3_firstOverlap_0 6 rfl rfl)
theorem dX3_firstOverlap_7 : decode cX3_firstOverlap 7 = .ok (.if_icmp .le 9, 3) := dk_164 0 9 (dk_at dksX3_firstOverlap_0 7 rfl rfl)
theorem dX3_firstOverlap_10 : decode cX3_firstOverlap 10 = .ok (.aload_n 0, 1) := dk_42 (dk_at dksX3_firstOverlap_0 10 rfl rfl)
theorem dX3_firstOverlap_11 : decode cX3_firstOverlap 11 = .ok (.iconst 1, 1) := dk_4 (dk_at dksX3_firstOverlap_0 11 rfl rfl)
theorem dX3_firstOverlap_12 : decode cX3_firstOverlap 12 = .ok (.invokevirtual 190, 3) := dk_182 0 190 (dk_at dksX3_firstOverlap_0 12 rfl rfl)
theorem dX3_firstOverlap_15 : decode cX3_firstOverlap 15 = .ok (.ireturn, 1) := dk_172 (dk_at dksX3_firstOverlap_0 15 rfl rfl)
theorem dX3_firstOverlap_16 : decode cX3_firstOverlap 16 = .ok (.aload_n 0, 1) := dk_42 (dk_at dksX3_firstOverlap_0 16 rfl rfl)
theorem dX3_firstOverlap_17 : decode cX3_firstOverlap 17 = .ok (.invokevirtual 187, 3) := dk_182 0 187 (dk_at dksX3_firstOverlap_0 17 rfl rfl)
theorem dX3_firstOverlap_20 : decode cX3_firstOverlap 20 = .ok (.iconst 0, 1) := dk_3 (dk_at dksX3_firstOverlap_0 20 rfl rfl)
theorem dX3_firstOverlap_21 : decode cX3_firstOverlap 21 = .ok (.istore_n 3, 1) := dk_62 (dk_at dksX3_firstOverlap_0 21 rfl rfl)
theorem dX3_firstOverlap_22 : decode cX3_firstOverlap 22 = .ok (.iload_n 3, 1) := dk_29 (dk_at dksX3_firstOverlap_0 22 rfl rfl)
theorem dX3_firstOverlap_23 : decode cX3_firstOverlap 23 = .ok (.aload_n 0, 1) := dk_42 (dk_at dksX3_firstOverlap_0 23 rfl rfl)
theorem dX3_firstOverlap_24 : decode cX3_firstOverlap 24 = .ok (.getfield 63, 3) := dk_180 0 63 (dk_at dksX3_firstOverlap_1 0 rfl rfl)
theorem dX3_firstOverlap_27 : decode cX3_firstOverlap 27 = .ok (.if_icmp .ge 31, 3) := dk_162 0 31 (dk_at dksX3_firstOverlap_1 3 rfl rfl)
theorem dX3_firstOverlap_30 : decode cX3_firstOverlap 30 = .ok (.aload_n 0, 1) := dk_42 (dk_at dksX3_firstOverlap_1 6 rfl rfl)
theorem dX3_firstOverlap_31 : decode cX3_firstOverlap 31 = .ok (.aload_n 0, 1) := dk_42 (dk_at dksX3_firstOverlap_1 7 rfl rfl)
theorem dX3_firstOverlap_32 : decode cX3_firstOverlap 32 = .ok (.getfield 60, 3) := dk_180 0 60 (dk_at dksX3_firstOverlap_1 8 rfl rfl)
theorem dX3_firstOverlap_35 : decode cX3_firstOverlap 35 = .ok (.iload_n 3, 1) := dk_29 (dk_at dksX3_firstOverlap_1 11 rfl rfl)
theorem dX3_firstOverlap_36 : decode cX3_firstOverlap 36 = .ok (.iaload, 1) := dk_46 (dk_at dksX3_firstOverlap_1 12 rfl rfl)
theorem dX3_firstOverlap_37 : decode cX3_firstOverlap 37 = .ok (.iload_n 1, 1) := dk_27 (dk_at dksX3_firstOverlap_1 13 rfl rfl)
theorem dX3_firstOverlap_38 : decode cX3_firstOverlap 38 = .ok (.iload_n 2, 1) := dk_28 (dk_at dksX3_firstOverlap_1 14 rfl rfl)
theorem dX3_firstOverlap_39 : decode cX3_firstOverlap 39 = .ok (.invokevirtual 251, 3) := dk_182 0 251 (dk_at dksX3_firstOverlap_1 15 rfl rfl)
theorem dX3_firstOverlap_42 : decode cX3_firstOverlap 42 = .ok (.ifCond .eq 10, 3) := dk_153 0 10 (dk_at dksX3_firstOverlap_1 18 rfl rfl)
theorem dX3_firstOverlap_45 : decode cX3_firstOverlap 45 = .ok (.aload_n 0, 1) := dk_42 (dk_at dksX3_firstOverlap_1 21 rfl rfl)
theorem dX3_firstOverlap_46 : decode cX3_firstOverlap 46 = .ok (.getfield 60, 3) := dk_180 0 60 (dk_at dksX3_firstOverlap_2 0 rfl rfl)
theorem dX3_firstOverlap_49 : decode cX3_firstOverlap 49 = .ok (.iload_n 3, 1) := dk_29 (dk_at dksX3_firstOverlap_2 3 rfl rfl)
theorem dX3_firstOverlap_50 : decode cX3_firstOverlap 50 = .ok (.iaload, 1) := dk_46 (dk_at dksX3_firstOverlap_2 4 rfl rfl)
theorem dX3_firstOverlap_51 : decode cX3_firstOverlap 51 = .ok (.ireturn, 1) := dk_172 (dk_at dksX3_firstOverlap_2 5 rfl rfl)
theorem dX3_firstOverlap_52 : decode cX3_firstOverlap 52 = .ok (.iinc 3 1, 3) := dk_132 3 1 (dk_at dksX3_firstOverlap_2 6 rfl rfl)
theorem dX3_firstOverlap_55 : decode cX3_firstOverlap 55 = .ok (.goto (-33), 3) := dk_167 255 223 (dk_at dksX3_firstOverlap_2 9 rfl rfl)
theorem dX3_firstOverlap_58 : decode cX3_firstOverlap 58 = .ok (.iconst (-1), 1) := dk_2 (dk_at dksX3_firstOverlap_2 12 rfl rfl)
theorem dX3_firstOverlap_59 : decode cX3_firstOverlap 59 = .ok (.ireturn, 1) := dk_172 (dk_at dksX3_firstOverlap_2 13 rfl rfl)
abbrev cX3_floor : ByteArray := prog_10_method_53_code
def yX3_floor : MethodName := ⟨RX3, "floor", "(I)I"⟩
def dkwX3_floor_1 : List UInt8 := [29, 46, 46, 27, 163, 0, 10, 42, 180, 0, 60, 29, 46, 61, 132, 3, 1, 167, 255, 223, 28, 172]
abbrev dktX3_floor_1 : List UInt8 := dkwX3_floor_1 ++ []
def dkwX3_floor_0 : List UInt8 := [42, 182, 0, 187, 2, 61, 3, 62, 29, 42, 180, 0, 63, 162, 0, 31, 42, 180, 0, 13, 42, 180, 0, 60]
abbrev dktX3_floor_0 : List UInt8 := dkwX3_floor_0 ++ dktX3_floor_1
theorem dksX3_floor_0 : cX3_floor.data.toList.drop 0 = dktX3_floor_0 := by decide +kernel
theorem dksX3_floor_1 : cX3_floor.data.toList.drop 24 = dktX3_floor_1 := dk_seg dksX3_floor_0 24 rfl rfl
theorem dX3_floor_0 : decode cX3_floor 0 = .ok (.aload_n 0, 1) := dk_42 (dk_at dksX3_floor_0 0 rfl rfl)
theorem dX3_floor_1 : decode cX3_floor 1 = .ok (.invokevirtual 187, 3) := dk_182 0 187 (dk_at dksX3_floor_0 1 rfl rfl)
theorem dX3_floor_4 : decode cX3_floor 4 = .ok (.iconst (-1), 1) := dk_2 (dk_at dksX3_floor_0 4 rfl rfl)
theorem dX3_floor_5 : decode cX3_floor 5 = .ok (.istore_n 2, 1) := dk_61 (dk_at dksX3_floor_0 5 rfl rfl)
theorem dX3_floor_6 : decode cX3_floor 6 = .ok (.iconst 0, 1) := dk_3 (dk_at dksX3_floor_0 6 rfl rfl)
theorem dX3_floor_7 : decode cX3_floor 7 = .ok (.istore_n 3, 1) := dk_62 (dk_at dksX3_floor_0 7 rfl rfl)
theorem dX3_floor_8 : decode cX3_floor 8 = .ok (.iload_n 3, 1) := dk_29 (dk_at dksX3_floor_0 8 rfl rfl)
theorem dX3_floor_9 : decode cX3_floor 9 = .ok (.aload_n 0, 1) := dk_42 (dk_at dksX3_floor_0 9 rfl rfl)
theorem dX3_floor_10 : decode cX3_floor 10 = .ok (.getfield 63, 3) := dk_180 0 63 (dk_at dksX3_floor_0 10 rfl rfl)
theorem dX3_floor_13 : decode cX3_floor 13 = .ok (.if_icmp .ge 31, 3) := dk_162 0 31 (dk_at dksX3_floor_0 13 rfl rfl)
theorem dX3_floor_16 : decode cX3_floor 16 = .ok (.aload_n 0, 1) := dk_42 (dk_at dksX3_floor_0 16 rfl rfl)
theorem dX3_floor_17 : decode cX3_floor 17 = .ok (.getfield 13, 3) := dk_180 0 13 (dk_at dksX3_floor_0 17 rfl rfl)
theorem dX3_floor_20 : decode cX3_floor 20 = .ok (.aload_n 0, 1) := dk_42 (dk_at dksX3_floor_0 20 rfl rfl)
theorem dX3_floor_21 : decode cX3_floor 21 = .ok (.getfield 60, 3) := dk_180 0 60 (dk_at dksX3_floor_0 21 rfl rfl)
theorem dX3_floor_24 : decode cX3_floor 24 = .ok (.iload_n 3, 1) := dk_29 (dk_at dksX3_floor_1 0 rfl rfl)
theorem dX3_floor_25 : decode cX3_floor 25 = .ok (.iaload, 1) := dk_46 (dk_at dksX3_floor_1 1 rfl rfl)
theorem dX3_floor_26 : decode cX3_floor 26 = .ok (.iaload, 1) := dk_46 (dk_at dksX3_floor_1 2 rfl rfl)
theorem dX3_floor_27 : decode cX3_floor 27 = .ok (.iload_n 1, 1) := dk_27 (dk_at dksX3_floor_1 3 rfl rfl)
theorem dX3_floor_28 : decode cX3_floor 28 = .ok (.if_icmp .gt 10, 3) := dk_163 0 10 (dk_at dksX3_floor_1 4 rfl rfl)
theorem dX3_floor_31 : decode cX3_floor 31 = .ok (.aload_n 0, 1) := dk_42 (dk_at dksX3_floor_1 7 rfl rfl)
theorem dX3_floor_32 : decode cX3_floor 32 = .ok (.getfield 60, 3) := dk_180 0 60 (dk_at dksX3_floor_1 8 rfl rfl)
theorem dX3_floor_35 : decode cX3_floor 35 = .ok (.iload_n 3, 1) := dk_29 (dk_at dksX3_floor_1 11 rfl rfl)
theorem dX3_floor_36 : decode cX3_floor 36 = .ok (.iaload, 1) := dk_46 (dk_at dksX3_floor_1 12 rfl rfl)
theorem dX3_floor_37 : decode cX3_floor 37 = .ok (.istore_n 2, 1) := dk_61 (dk_at dksX3_floor_1 13 rfl rfl)
theorem dX3_floor_38 : decode cX3_floor 38 = .ok (.iinc 3 1, 3) := dk_132 3 1 (dk_at dksX3_floor_1 14 rfl rfl)
theorem dX3_floor_41 : decode cX3_floor 41 = .ok (.goto (-33), 3) := dk_167 255 223 (dk_at dksX3_floor_1 17 rfl rfl)
theorem dX3_floor_44 : decode cX3_floor 44 = .ok (.iload_n 2, 1) := dk_28 (dk_at dksX3_floor_1 20 rfl rfl)
theorem dX3_floor_45 : decode cX3_floor 45 = .ok (.ireturn, 1) := dk_172 (dk_at dksX3_floor_1 21 rfl rfl)
abbrev cX3_ceiling : ByteArray := prog_10_method_54_code
def yX3_ceiling : MethodName := ⟨RX3, "ceiling", "(I)I"⟩
def dkwX3_ceiling_1 : List UInt8 := [46, 27, 161, 0, 10, 42, 180, 0, 60, 28, 46, 172, 132, 2, 1, 167, 255, 223, 2, 172]
abbrev dktX3_ceiling_1 : List UInt8 := dkwX3_ceiling_1 ++ []
def dkwX3_ceiling_0 : List UInt8 := [42, 182, 0, 187, 3, 61, 28, 42, 180, 0, 63, 162, 0, 31, 42, 180, 0, 13, 42, 180, 0, 60, 28, 46]
abbrev dktX3_ceiling_0 : List UInt8 := dkwX3_ceiling_0 ++ dktX3_ceiling_1
theorem dksX3_ceiling_0 : cX3_ceiling.data.toList.drop 0 = dktX3_ceiling_0 := by decide +kernel
theorem dksX3_ceiling_1 : cX3_ceiling.data.toList.drop 24 = dktX3_ceiling_1 := dk_seg dksX3_ceiling_0 24 rfl rfl
theorem dX3_ceiling_0 : decode cX3_ceiling 0 = .ok (.aload_n 0, 1) := dk_42 (dk_at dksX3_ceiling_0 0 rfl rfl)
theorem dX3_ceiling_1 : decode cX3_ceiling 1 = .ok (.invokevirtual 187, 3) := dk_182 0 187 (dk_at dksX3_ceiling_0 1 rfl rfl)
theorem dX3_ceiling_4 : decode cX3_ceiling 4 = .ok (.iconst 0, 1) := dk_3 (dk_at dksX3_ceiling_0 4 rfl rfl)
theorem dX3_ceiling_5 : decode cX3_ceiling 5 = .ok (.istore_n 2, 1) := dk_61 (dk_at dksX3_ceiling_0 5 rfl rfl)
theorem dX3_ceiling_6 : decode cX3_ceiling 6 = .ok (.iload_n 2, 1) := dk_28 (dk_at dksX3_ceiling_0 6 rfl rfl)
theorem dX3_ceiling_7 : decode cX3_ceiling 7 = .ok (.aload_n 0, 1) := dk_42 (dk_at dksX3_ceiling_0 7 rfl rfl)
theorem dX3_ceiling_8 : decode cX3_ceiling 8 = .ok (.getfield 63, 3) := dk_180 0 63 (dk_at dksX3_ceiling_0 8 rfl rfl)
theorem dX3_ceiling_11 : decode cX3_ceiling 11 = .ok (.if_icmp .ge 31, 3) := dk_162 0 31 (dk_at dksX3_ceiling_0 11 rfl rfl)
theorem dX3_ceiling_14 : decode cX3_ceiling 14 = .ok (.aload_n 0, 1) := dk_42 (dk_at dksX3_ceiling_0 14 rfl rfl)
theorem dX3_ceiling_15 : decode cX3_ceiling 15 = .ok (.getfield 13, 3) := dk_180 0 13 (dk_at dksX3_ceiling_0 15 rfl rfl)
theorem dX3_ceiling_18 : decode cX3_ceiling 18 = .ok (.aload_n 0, 1) := dk_42 (dk_at dksX3_ceiling_0 18 rfl rfl)
theorem dX3_ceiling_19 : decode cX3_ceiling 19 = .ok (.getfield 60, 3) := dk_180 0 60 (dk_at dksX3_ceiling_0 19 rfl rfl)
theorem dX3_ceiling_22 : decode cX3_ceiling 22 = .ok (.iload_n 2, 1) := dk_28 (dk_at dksX3_ceiling_0 22 rfl rfl)
theorem dX3_ceiling_23 : decode cX3_ceiling 23 = .ok (.iaload, 1) := dk_46 (dk_at dksX3_ceiling_0 23 rfl rfl)
theorem dX3_ceiling_24 : decode cX3_ceiling 24 = .ok (.iaload, 1) := dk_46 (dk_at dksX3_ceiling_1 0 rfl rfl)
theorem dX3_ceiling_25 : decode cX3_ceiling 25 = .ok (.iload_n 1, 1) := dk_27 (dk_at dksX3_ceiling_1 1 rfl rfl)
theorem dX3_ceiling_26 : decode cX3_ceiling 26 = .ok (.if_icmp .lt 10, 3) := dk_161 0 10 (dk_at dksX3_ceiling_1 2 rfl rfl)
theorem dX3_ceiling_29 : decode cX3_ceiling 29 = .ok (.aload_n 0, 1) := dk_42 (dk_at dksX3_ceiling_1 5 rfl rfl)
theorem dX3_ceiling_30 : decode cX3_ceiling 30 = .ok (.getfield 60, 3) := dk_180 0 60 (dk_at dksX3_ceiling_1 6 rfl rfl)
theorem dX3_ceiling_33 : decode cX3_ceiling 33 = .ok (.iload_n 2, 1) := dk_28 (dk_at dksX3_ceiling_1 9 rfl rfl)
theorem dX3_ceiling_34 : decode cX3_ceiling 34 = .ok (.iaload, 1) := dk_46 (dk_at dksX3_ceiling_1 10 rfl rfl)
theorem dX3_ceiling_35 : decode cX3_ceiling 35 = .ok (.ireturn, 1) := dk_172 (dk_at dksX3_ceiling_1 11 rfl rfl)
theorem dX3_ceiling_36 : decode cX3_ceiling 36 = .ok (.iinc 2 1, 3) := dk_132 2 1 (dk_at dksX3_ceiling_1 12 rfl rfl)
theorem dX3_ceiling_39 : decode cX3_ceiling 39 = .ok (.goto (-33), 3) := dk_167 255 223 (dk_at dksX3_ceiling_1 15 rfl rfl)
theorem dX3_ceiling_42 : decode cX3_ceiling 42 = .ok (.iconst (-1), 1) := dk_2 (dk_at dksX3_ceiling_1 18 rfl rfl)
theorem dX3_ceiling_43 : decode cX3_ceiling 43 = .ok (.ireturn, 1) := dk_172 (dk_at dksX3_ceiling_1 19 rfl rfl)
abbrev cX3_rank : ByteArray := prog_10_method_55_code
def yX3_rank : MethodName := ⟨RX3, "rank", "(I)I"⟩
def dkwX3_rank_2 : List UInt8 := [153, 0, 7, 4, 167, 0, 4, 3, 96, 61, 132, 3, 1, 167, 255, 219, 28, 172]
abbrev dktX3_rank_2 : List UInt8 := dkwX3_rank_2 ++ []
def dkwX3_rank_1 : List UInt8 := [42, 180, 0, 42, 162, 0, 35, 28, 42, 180, 0, 23, 29, 46, 154, 0, 16, 42, 29, 27, 182, 0, 171]
abbrev dktX3_rank_1 : List UInt8 := dkwX3_rank_1 ++ dktX3_rank_2
def dkwX3_rank_0 : List UInt8 := [42, 3, 181, 0, 1, 42, 27, 182, 0, 206, 154, 0, 9, 42, 4, 182, 0, 190, 172, 3, 61, 3, 62, 29]
abbrev dktX3_rank_0 : List UInt8 := dkwX3_rank_0 ++ dktX3_rank_1
theorem dksX3_rank_0 : cX3_rank.data.toList.drop 0 = dktX3_rank_0 := by decide +kernel
theorem dksX3_rank_1 : cX3_rank.data.toList.drop 24 = dktX3_rank_1 := dk_seg dksX3_rank_0 24 rfl rfl
theorem dksX3_rank_2 : cX3_rank.data.toList.drop 47 = dktX3_rank_2 := dk_seg dksX3_rank_1 23 rfl rfl
theorem dX3_rank_0 : decode cX3_rank 0 = .ok (.aload_n 0, 1) := dk_42 (dk_at dksX3_rank_0 0 rfl rfl)
theorem dX3_rank_1 : decode cX3_rank 1 = .ok (.iconst 0, 1) := dk_3 (dk_at dksX3_rank_0 1 rfl rfl)
theorem dX3_rank_2 : decode cX3_rank 2 = .ok (.putfield 1, 3) := dk_181 0 1 (dk_at dksX3_rank_0 2 rfl rfl)
theorem dX3_rank_5 : decode cX3_rank 5 = .ok (.aload_n 0, 1) := dk_42 (dk_at dksX3_rank_0 5 rfl rfl)
theorem dX3_rank_6 : decode cX3_rank 6 = .ok (.iload_n 1, 1) := dk_27 (dk_at dksX3_rank_0 6 rfl rfl)
theorem dX3_rank_7 : decode cX3_rank 7 = .ok (.invokevirtual 206, 3) := dk_182 0 206 (dk_at dksX3_rank_0 7 rfl rfl)
theorem dX3_rank_10 : decode cX3_rank 10 = .ok (.ifCond .ne 9, 3) := dk_154 0 9 (dk_at dksX3_rank_0 10 rfl rfl)
theorem dX3_rank_13 : decode cX3_rank 13 = .ok (.aload_n 0, 1) := dk_42 (dk_at dksX3_rank_0 13 rfl rfl)
theorem dX3_rank_14 : decode cX3_rank 14 = .ok (.iconst 1, 1) := dk_4 (dk_at dksX3_rank_0 14 rfl rfl)
theorem dX3_rank_15 : decode cX3_rank 15 = .ok (.invokevirtual 190, 3) := dk_182 0 190 (dk_at dksX3_rank_0 15 rfl rfl)
theorem dX3_rank_18 : decode cX3_rank 18 = .ok (.ireturn, 1) := dk_172 (dk_at dksX3_rank_0 18 rfl rfl)
theorem dX3_rank_19 : decode cX3_rank 19 = .ok (.iconst 0, 1) := dk_3 (dk_at dksX3_rank_0 19 rfl rfl)
theorem dX3_rank_20 : decode cX3_rank 20 = .ok (.istore_n 2, 1) := dk_61 (dk_at dksX3_rank_0 20 rfl rfl)
theorem dX3_rank_21 : decode cX3_rank 21 = .ok (.iconst 0, 1) := dk_3 (dk_at dksX3_rank_0 21 rfl rfl)
theorem dX3_rank_22 : decode cX3_rank 22 = .ok (.istore_n 3, 1) := dk_62 (dk_at dksX3_rank_0 22 rfl rfl)
theorem dX3_rank_23 : decode cX3_rank 23 = .ok (.iload_n 3, 1) := dk_29 (dk_at dksX3_rank_0 23 rfl rfl)
theorem dX3_rank_24 : decode cX3_rank 24 = .ok (.aload_n 0, 1) := dk_42 (dk_at dksX3_rank_1 0 rfl rfl)
theorem dX3_rank_25 : decode cX3_rank 25 = .ok (.getfield 42, 3) := dk_180 0 42 (dk_at dksX3_rank_1 1 rfl rfl)
theorem dX3_rank_28 : decode cX3_rank 28 = .ok (.if_icmp .ge 35, 3) := dk_162 0 35 (dk_at dksX3_rank_1 4 rfl rfl)
theorem dX3_rank_31 : decode cX3_rank 31 = .ok (.iload_n 2, 1) := dk_28 (dk_at dksX3_rank_1 7 rfl rfl)
theorem dX3_rank_32 : decode cX3_rank 32 = .ok (.aload_n 0, 1) := dk_42 (dk_at dksX3_rank_1 8 rfl rfl)
theorem dX3_rank_33 : decode cX3_rank 33 = .ok (.getfield 23, 3) := dk_180 0 23 (dk_at dksX3_rank_1 9 rfl rfl)
theorem dX3_rank_36 : decode cX3_rank 36 = .ok (.iload_n 3, 1) := dk_29 (dk_at dksX3_rank_1 12 rfl rfl)
theorem dX3_rank_37 : decode cX3_rank 37 = .ok (.iaload, 1) := dk_46 (dk_at dksX3_rank_1 13 rfl rfl)
theorem dX3_rank_38 : decode cX3_rank 38 = .ok (.ifCond .ne 16, 3) := dk_154 0 16 (dk_at dksX3_rank_1 14 rfl rfl)
theorem dX3_rank_41 : decode cX3_rank 41 = .ok (.aload_n 0, 1) := dk_42 (dk_at dksX3_rank_1 17 rfl rfl)
theorem dX3_rank_42 : decode cX3_rank 42 = .ok (.iload_n 3, 1) := dk_29 (dk_at dksX3_rank_1 18 rfl rfl)
theorem dX3_rank_43 : decode cX3_rank 43 = .ok (.iload_n 1, 1) := dk_27 (dk_at dksX3_rank_1 19 rfl rfl)
theorem dX3_rank_44 : decode cX3_rank 44 = .ok (.invokevirtual 171, 3) := dk_182 0 171 (dk_at dksX3_rank_1 20 rfl rfl)
theorem dX3_rank_47 : decode cX3_rank 47 = .ok (.ifCond .eq 7, 3) := dk_153 0 7 (dk_at dksX3_rank_2 0 rfl rfl)
theorem dX3_rank_50 : decode cX3_rank 50 = .ok (.iconst 1, 1) := dk_4 (dk_at dksX3_rank_2 3 rfl rfl)
theorem dX3_rank_51 : decode cX3_rank 51 = .ok (.goto 4, 3) := dk_167 0 4 (dk_at dksX3_rank_2 4 rfl rfl)
theorem dX3_rank_54 : decode cX3_rank 54 = .ok (.iconst 0, 1) := dk_3 (dk_at dksX3_rank_2 7 rfl rfl)
theorem dX3_rank_55 : decode cX3_rank 55 = .ok (.iadd, 1) := dk_96 (dk_at dksX3_rank_2 8 rfl rfl)
theorem dX3_rank_56 : decode cX3_rank 56 = .ok (.istore_n 2, 1) := dk_61 (dk_at dksX3_rank_2 9 rfl rfl)
theorem dX3_rank_57 : decode cX3_rank 57 = .ok (.iinc 3 1, 3) := dk_132 3 1 (dk_at dksX3_rank_2 10 rfl rfl)
theorem dX3_rank_60 : decode cX3_rank 60 = .ok (.goto (-37), 3) := dk_167 255 219 (dk_at dksX3_rank_2 13 rfl rfl)
theorem dX3_rank_63 : decode cX3_rank 63 = .ok (.iload_n 2, 1) := dk_28 (dk_at dksX3_rank_2 16 rfl rfl)
theorem dX3_rank_64 : decode cX3_rank 64 = .ok (.ireturn, 1) := dk_172 (dk_at dksX3_rank_2 17 rfl rfl)
abbrev cX3_select : ByteArray := prog_10_method_56_code
def yX3_select : MethodName := ⟨RX3, "select", "(I)I"⟩
def dkwX3_select_1 : List UInt8 := [172, 42, 182, 0, 187, 42, 180, 0, 60, 27, 46, 172]
abbrev dktX3_select_1 : List UInt8 := dkwX3_select_1 ++ []
def dkwX3_select_0 : List UInt8 := [42, 3, 181, 0, 1, 27, 3, 42, 182, 0, 202, 4, 100, 184, 0, 163, 154, 0, 9, 42, 4, 182, 0, 190]
abbrev dktX3_select_0 : List UInt8 := dkwX3_select_0 ++ dktX3_select_1
theorem dksX3_select_0 : cX3_select.data.toList.drop 0 = dktX3_select_0 := by decide +kernel
theorem dksX3_select_1 : cX3_select.data.toList.drop 24 = dktX3_select_1 := dk_seg dksX3_select_0 24 rfl rfl
theorem dX3_select_0 : decode cX3_select 0 = .ok (.aload_n 0, 1) := dk_42 (dk_at dksX3_select_0 0 rfl rfl)
theorem dX3_select_1 : decode cX3_select 1 = .ok (.iconst 0, 1) := dk_3 (dk_at dksX3_select_0 1 rfl rfl)
theorem dX3_select_2 : decode cX3_select 2 = .ok (.putfield 1, 3) := dk_181 0 1 (dk_at dksX3_select_0 2 rfl rfl)
theorem dX3_select_5 : decode cX3_select 5 = .ok (.iload_n 1, 1) := dk_27 (dk_at dksX3_select_0 5 rfl rfl)
theorem dX3_select_6 : decode cX3_select 6 = .ok (.iconst 0, 1) := dk_3 (dk_at dksX3_select_0 6 rfl rfl)
theorem dX3_select_7 : decode cX3_select 7 = .ok (.aload_n 0, 1) := dk_42 (dk_at dksX3_select_0 7 rfl rfl)
theorem dX3_select_8 : decode cX3_select 8 = .ok (.invokevirtual 202, 3) := dk_182 0 202 (dk_at dksX3_select_0 8 rfl rfl)
theorem dX3_select_11 : decode cX3_select 11 = .ok (.iconst 1, 1) := dk_4 (dk_at dksX3_select_0 11 rfl rfl)
theorem dX3_select_12 : decode cX3_select 12 = .ok (.isub, 1) := dk_100 (dk_at dksX3_select_0 12 rfl rfl)
theorem dX3_select_13 : decode cX3_select 13 = .ok (.invokestatic 163, 3) := dk_184 0 163 (dk_at dksX3_select_0 13 rfl rfl)
theorem dX3_select_16 : decode cX3_select 16 = .ok (.ifCond .ne 9, 3) := dk_154 0 9 (dk_at dksX3_select_0 16 rfl rfl)
theorem dX3_select_19 : decode cX3_select 19 = .ok (.aload_n 0, 1) := dk_42 (dk_at dksX3_select_0 19 rfl rfl)
theorem dX3_select_20 : decode cX3_select 20 = .ok (.iconst 1, 1) := dk_4 (dk_at dksX3_select_0 20 rfl rfl)
theorem dX3_select_21 : decode cX3_select 21 = .ok (.invokevirtual 190, 3) := dk_182 0 190 (dk_at dksX3_select_0 21 rfl rfl)
theorem dX3_select_24 : decode cX3_select 24 = .ok (.ireturn, 1) := dk_172 (dk_at dksX3_select_1 0 rfl rfl)
theorem dX3_select_25 : decode cX3_select 25 = .ok (.aload_n 0, 1) := dk_42 (dk_at dksX3_select_1 1 rfl rfl)
theorem dX3_select_26 : decode cX3_select 26 = .ok (.invokevirtual 187, 3) := dk_182 0 187 (dk_at dksX3_select_1 2 rfl rfl)
theorem dX3_select_29 : decode cX3_select 29 = .ok (.aload_n 0, 1) := dk_42 (dk_at dksX3_select_1 5 rfl rfl)
theorem dX3_select_30 : decode cX3_select 30 = .ok (.getfield 60, 3) := dk_180 0 60 (dk_at dksX3_select_1 6 rfl rfl)
theorem dX3_select_33 : decode cX3_select 33 = .ok (.iload_n 1, 1) := dk_27 (dk_at dksX3_select_1 9 rfl rfl)
theorem dX3_select_34 : decode cX3_select 34 = .ok (.iaload, 1) := dk_46 (dk_at dksX3_select_1 10 rfl rfl)
theorem dX3_select_35 : decode cX3_select 35 = .ok (.ireturn, 1) := dk_172 (dk_at dksX3_select_1 11 rfl rfl)
abbrev cX3_nearest : ByteArray := prog_10_method_57_code
def yX3_nearest : MethodName := ⟨RX3, "nearest", "(I)I"⟩
def dkwX3_nearest_5 : List UInt8 := [21, 6, 62, 132, 4, 1, 167, 255, 166, 28, 172]
abbrev dktX3_nearest_5 : List UInt8 := dkwX3_nearest_5 ++ []
def dkwX3_nearest_4 : List UInt8 := [167, 0, 4, 3, 54, 6, 28, 2, 159, 0, 12, 21, 6, 29, 161, 0, 6, 167, 0, 9, 21, 5, 61]
abbrev dktX3_nearest_4 : List UInt8 := dkwX3_nearest_4 ++ dktX3_nearest_5
def dkwX3_nearest_3 : List UInt8 := [100, 167, 0, 27, 27, 42, 180, 0, 17, 21, 5, 46, 164, 0, 15, 27, 42, 180, 0, 17, 21, 5, 46, 100]
abbrev dktX3_nearest_3 : List UInt8 := dkwX3_nearest_3 ++ dktX3_nearest_4
def dkwX3_nearest_2 : List UInt8 := [21, 4, 46, 54, 5, 27, 42, 180, 0, 13, 21, 5, 46, 162, 0, 15, 42, 180, 0, 13, 21, 5, 46, 27]
abbrev dktX3_nearest_2 : List UInt8 := dkwX3_nearest_2 ++ dktX3_nearest_3
def dkwX3_nearest_1 : List UInt8 := [42, 182, 0, 187, 2, 61, 3, 62, 3, 54, 4, 21, 4, 42, 180, 0, 63, 162, 0, 87, 42, 180, 0, 60]
abbrev dktX3_nearest_1 : List UInt8 := dkwX3_nearest_1 ++ dktX3_nearest_2
def dkwX3_nearest_0 : List UInt8 := [42, 3, 181, 0, 1, 27, 17, 248, 48, 17, 7, 208, 184, 0, 163, 154, 0, 9, 42, 4, 182, 0, 190, 172]
abbrev dktX3_nearest_0 : List UInt8 := dkwX3_nearest_0 ++ dktX3_nearest_1
theorem dksX3_nearest_0 : cX3_nearest.data.toList.drop 0 = dktX3_nearest_0 := by decide +kernel
theorem dksX3_nearest_1 : cX3_nearest.data.toList.drop 24 = dktX3_nearest_1 := dk_seg dksX3_nearest_0 24 rfl rfl
theorem dksX3_nearest_2 : cX3_nearest.data.toList.drop 48 = dktX3_nearest_2 := dk_seg dksX3_nearest_1 24 rfl rfl
theorem dksX3_nearest_3 : cX3_nearest.data.toList.drop 72 = dktX3_nearest_3 := dk_seg dksX3_nearest_2 24 rfl rfl
theorem dksX3_nearest_4 : cX3_nearest.data.toList.drop 96 = dktX3_nearest_4 := dk_seg dksX3_nearest_3 24 rfl rfl
theorem dksX3_nearest_5 : cX3_nearest.data.toList.drop 119 = dktX3_nearest_5 := dk_seg dksX3_nearest_4 23 rfl rfl
theorem dX3_nearest_0 : decode cX3_nearest 0 = .ok (.aload_n 0, 1) := dk_42 (dk_at dksX3_nearest_0 0 rfl rfl)
theorem dX3_nearest_1 : decode cX3_nearest 1 = .ok (.iconst 0, 1) := dk_3 (dk_at dksX3_nearest_0 1 rfl rfl)
theorem dX3_nearest_2 : decode cX3_nearest 2 = .ok (.putfield 1, 3) := dk_181 0 1 (dk_at dksX3_nearest_0 2 rfl rfl)
theorem dX3_nearest_5 : decode cX3_nearest 5 = .ok (.iload_n 1, 1) := dk_27 (dk_at dksX3_nearest_0 5 rfl rfl)
theorem dX3_nearest_6 : decode cX3_nearest 6 = .ok (.sipush (-2000), 3) := dk_17 248 48 (dk_at dksX3_nearest_0 6 rfl rfl)
theorem dX3_nearest_9 : decode cX3_nearest 9 = .ok (.sipush 2000, 3) := dk_17 7 208 (dk_at dksX3_nearest_0 9 rfl rfl)
theorem dX3_nearest_12 : decode cX3_nearest 12 = .ok (.invokestatic 163, 3) := dk_184 0 163 (dk_at dksX3_nearest_0 12 rfl rfl)
theorem dX3_nearest_15 : decode cX3_nearest 15 = .ok (.ifCond .ne 9, 3) := dk_154 0 9 (dk_at dksX3_nearest_0 15 rfl rfl)
theorem dX3_nearest_18 : decode cX3_nearest 18 = .ok (.aload_n 0, 1) := dk_42 (dk_at dksX3_nearest_0 18 rfl rfl)
theorem dX3_nearest_19 : decode cX3_nearest 19 = .ok (.iconst 1, 1) := dk_4 (dk_at dksX3_nearest_0 19 rfl rfl)
theorem dX3_nearest_20 : decode cX3_nearest 20 = .ok (.invokevirtual 190, 3) := dk_182 0 190 (dk_at dksX3_nearest_0 20 rfl rfl)
theorem dX3_nearest_23 : decode cX3_nearest 23 = .ok (.ireturn, 1) := dk_172 (dk_at dksX3_nearest_0 23 rfl rfl)
theorem dX3_nearest_24 : decode cX3_nearest 24 = .ok (.aload_n 0, 1) := dk_42 (dk_at dksX3_nearest_1 0 rfl rfl)
theorem dX3_nearest_25 : decode cX3_nearest 25 = .ok (.invokevirtual 187, 3) := dk_182 0 187 (dk_at dksX3_nearest_1 1 rfl rfl)
theorem dX3_nearest_28 : decode cX3_nearest 28 = .ok (.iconst (-1), 1) := dk_2 (dk_at dksX3_nearest_1 4 rfl rfl)
theorem dX3_nearest_29 : decode cX3_nearest 29 = .ok (.istore_n 2, 1) := dk_61 (dk_at dksX3_nearest_1 5 rfl rfl)
theorem dX3_nearest_30 : decode cX3_nearest 30 = .ok (.iconst 0, 1) := dk_3 (dk_at dksX3_nearest_1 6 rfl rfl)
theorem dX3_nearest_31 : decode cX3_nearest 31 = .ok (.istore_n 3, 1) := dk_62 (dk_at dksX3_nearest_1 7 rfl rfl)
theorem dX3_nearest_32 : decode cX3_nearest 32 = .ok (.iconst 0, 1) := dk_3 (dk_at dksX3_nearest_1 8 rfl rfl)
theorem dX3_nearest_33 : decode cX3_nearest 33 = .ok (.istore 4, 2) := dk_54 4 (dk_at dksX3_nearest_1 9 rfl rfl)
theorem dX3_nearest_35 : decode cX3_nearest 35 = .ok (.iload 4, 2) := dk_21 4 (dk_at dksX3_nearest_1 11 rfl rfl)
theorem dX3_nearest_37 : decode cX3_nearest 37 = .ok (.aload_n 0, 1) := dk_42 (dk_at dksX3_nearest_1 13 rfl rfl)
theorem dX3_nearest_38 : decode cX3_nearest 38 = .ok (.getfield 63, 3) := dk_180 0 63 (dk_at dksX3_nearest_1 14 rfl rfl)
theorem dX3_nearest_41 : decode cX3_nearest 41 = .ok (.if_icmp .ge 87, 3) := dk_162 0 87 (dk_at dksX3_nearest_1 17 rfl rfl)
theorem dX3_nearest_44 : decode cX3_nearest 44 = .ok (.aload_n 0, 1) := dk_42 (dk_at dksX3_nearest_1 20 rfl rfl)
theorem dX3_nearest_45 : decode cX3_nearest 45 = .ok (.getfield 60, 3) := dk_180 0 60 (dk_at dksX3_nearest_1 21 rfl rfl)
theorem dX3_nearest_48 : decode cX3_nearest 48 = .ok (.iload 4, 2) := dk_21 4 (dk_at dksX3_nearest_2 0 rfl rfl)
theorem dX3_nearest_50 : decode cX3_nearest 50 = .ok (.iaload, 1) := dk_46 (dk_at dksX3_nearest_2 2 rfl rfl)
theorem dX3_nearest_51 : decode cX3_nearest 51 = .ok (.istore 5, 2) := dk_54 5 (dk_at dksX3_nearest_2 3 rfl rfl)
theorem dX3_nearest_53 : decode cX3_nearest 53 = .ok (.iload_n 1, 1) := dk_27 (dk_at dksX3_nearest_2 5 rfl rfl)
theorem dX3_nearest_54 : decode cX3_nearest 54 = .ok (.aload_n 0, 1) := dk_42 (dk_at dksX3_nearest_2 6 rfl rfl)
theorem dX3_nearest_55 : decode cX3_nearest 55 = .ok (.getfield 13, 3) := dk_180 0 13 (dk_at dksX3_nearest_2 7 rfl rfl)
theorem dX3_nearest_58 : decode cX3_nearest 58 = .ok (.iload 5, 2) := dk_21 5 (dk_at dksX3_nearest_2 10 rfl rfl)
theorem dX3_nearest_60 : decode cX3_nearest 60 = .ok (.iaload, 1) := dk_46 (dk_at dksX3_nearest_2 12 rfl rfl)
theorem dX3_nearest_61 : decode cX3_nearest 61 = .ok (.if_icmp .ge 15, 3) := dk_162 0 15 (dk_at dksX3_nearest_2 13 rfl rfl)
theorem dX3_nearest_64 : decode cX3_nearest 64 = .ok (.aload_n 0, 1) := dk_42 (dk_at dksX3_nearest_2 16 rfl rfl)
theorem dX3_nearest_65 : decode cX3_nearest 65 = .ok (.getfield 13, 3) := dk_180 0 13 (dk_at dksX3_nearest_2 17 rfl rfl)
theorem dX3_nearest_68 : decode cX3_nearest 68 = .ok (.iload 5, 2) := dk_21 5 (dk_at dksX3_nearest_2 20 rfl rfl)
theorem dX3_nearest_70 : decode cX3_nearest 70 = .ok (.iaload, 1) := dk_46 (dk_at dksX3_nearest_2 22 rfl rfl)
theorem dX3_nearest_71 : decode cX3_nearest 71 = .ok (.iload_n 1, 1) := dk_27 (dk_at dksX3_nearest_2 23 rfl rfl)
theorem dX3_nearest_72 : decode cX3_nearest 72 = .ok (.isub, 1) := dk_100 (dk_at dksX3_nearest_3 0 rfl rfl)
theorem dX3_nearest_73 : decode cX3_nearest 73 = .ok (.goto 27, 3) := dk_167 0 27 (dk_at dksX3_nearest_3 1 rfl rfl)
theorem dX3_nearest_76 : decode cX3_nearest 76 = .ok (.iload_n 1, 1) := dk_27 (dk_at dksX3_nearest_3 4 rfl rfl)
theorem dX3_nearest_77 : decode cX3_nearest 77 = .ok (.aload_n 0, 1) := dk_42 (dk_at dksX3_nearest_3 5 rfl rfl)
theorem dX3_nearest_78 : decode cX3_nearest 78 = .ok (.getfield 17, 3) := dk_180 0 17 (dk_at dksX3_nearest_3 6 rfl rfl)
theorem dX3_nearest_81 : decode cX3_nearest 81 = .ok (.iload 5, 2) := dk_21 5 (dk_at dksX3_nearest_3 9 rfl rfl)
theorem dX3_nearest_83 : decode cX3_nearest 83 = .ok (.iaload, 1) := dk_46 (dk_at dksX3_nearest_3 11 rfl rfl)
theorem dX3_nearest_84 : decode cX3_nearest 84 = .ok (.if_icmp .le 15, 3) := dk_164 0 15 (dk_at dksX3_nearest_3 12 rfl rfl)
theorem dX3_nearest_87 : decode cX3_nearest 87 = .ok (.iload_n 1, 1) := dk_27 (dk_at dksX3_nearest_3 15 rfl rfl)
theorem dX3_nearest_88 : decode cX3_nearest 88 = .ok (.aload_n 0, 1) := dk_42 (dk_at dksX3_nearest_3 16 rfl rfl)
theorem dX3_nearest_89 : decode cX3_nearest 89 = .ok (.getfield 17, 3) := dk_180 0 17 (dk_at dksX3_nearest_3 17 rfl rfl)
theorem dX3_nearest_92 : decode cX3_nearest 92 = .ok (.iload 5, 2) := dk_21 5 (dk_at dksX3_nearest_3 20 rfl rfl)
theorem dX3_nearest_94 : decode cX3_nearest 94 = .ok (.iaload, 1) := dk_46 (dk_at dksX3_nearest_3 22 rfl rfl)
theorem dX3_nearest_95 : decode cX3_nearest 95 = .ok (.isub, 1) := dk_100 (dk_at dksX3_nearest_3 23 rfl rfl)
theorem dX3_nearest_96 : decode cX3_nearest 96 = .ok (.goto 4, 3) := dk_167 0 4 (dk_at dksX3_nearest_4 0 rfl rfl)
theorem dX3_nearest_99 : decode cX3_nearest 99 = .ok (.iconst 0, 1) := dk_3 (dk_at dksX3_nearest_4 3 rfl rfl)
theorem dX3_nearest_100 : decode cX3_nearest 100 = .ok (.istore 6, 2) := dk_54 6 (dk_at dksX3_nearest_4 4 rfl rfl)
theorem dX3_nearest_102 : decode cX3_nearest 102 = .ok (.iload_n 2, 1) := dk_28 (dk_at dksX3_nearest_4 6 rfl rfl)
theorem dX3_nearest_103 : decode cX3_nearest 103 = .ok (.iconst (-1), 1) := dk_2 (dk_at dksX3_nearest_4 7 rfl rfl)
theorem dX3_nearest_104 : decode cX3_nearest 104 = .ok (.if_icmp .eq 12, 3) := dk_159 0 12 (dk_at dksX3_nearest_4 8 rfl rfl)
theorem dX3_nearest_107 : decode cX3_nearest 107 = .ok (.iload 6, 2) := dk_21 6 (dk_at dksX3_nearest_4 11 rfl rfl)
theorem dX3_nearest_109 : decode cX3_nearest 109 = .ok (.iload_n 3, 1) := dk_29 (dk_at dksX3_nearest_4 13 rfl rfl)
theorem dX3_nearest_110 : decode cX3_nearest 110 = .ok (.if_icmp .lt 6, 3) := dk_161 0 6 (dk_at dksX3_nearest_4 14 rfl rfl)
theorem dX3_nearest_113 : decode cX3_nearest 113 = .ok (.goto 9, 3) := dk_167 0 9 (dk_at dksX3_nearest_4 17 rfl rfl)
theorem dX3_nearest_116 : decode cX3_nearest 116 = .ok (.iload 5, 2) := dk_21 5 (dk_at dksX3_nearest_4 20 rfl rfl)
theorem dX3_nearest_118 : decode cX3_nearest 118 = .ok (.istore_n 2, 1) := dk_61 (dk_at dksX3_nearest_4 22 rfl rfl)
theorem dX3_nearest_119 : decode cX3_nearest 119 = .ok (.iload 6, 2) := dk_21 6 (dk_at dksX3_nearest_5 0 rfl rfl)
theorem dX3_nearest_121 : decode cX3_nearest 121 = .ok (.istore_n 3, 1) := dk_62 (dk_at dksX3_nearest_5 2 rfl rfl)
theorem dX3_nearest_122 : decode cX3_nearest 122 = .ok (.iinc 4 1, 3) := dk_132 4 1 (dk_at dksX3_nearest_5 3 rfl rfl)
theorem dX3_nearest_125 : decode cX3_nearest 125 = .ok (.goto (-90), 3) := dk_167 255 166 (dk_at dksX3_nearest_5 6 rfl rfl)
theorem dX3_nearest_128 : decode cX3_nearest 128 = .ok (.iload_n 2, 1) := dk_28 (dk_at dksX3_nearest_5 9 rfl rfl)
theorem dX3_nearest_129 : decode cX3_nearest 129 = .ok (.ireturn, 1) := dk_172 (dk_at dksX3_nearest_5 10 rfl rfl)
abbrev cX3_covered : ByteArray := prog_10_method_59_code
def yX3_covered : MethodName := ⟨RX3, "covered", "(II)I"⟩
def dkwX3_covered_3 : List UInt8 := [17, 3, 232, 96, 46, 158, 0, 7, 4, 167, 0, 4, 3, 96, 62, 132, 4, 1, 167, 255, 219, 29, 172]
abbrev dktX3_covered_3 : List UInt8 := dkwX3_covered_3 ++ []
def dkwX3_covered_2 : List UInt8 := [184, 0, 215, 54, 4, 21, 4, 28, 17, 3, 232, 184, 1, 5, 163, 0, 31, 29, 42, 180, 0, 72, 21, 4]
abbrev dktX3_covered_2 : List UInt8 := dkwX3_covered_2 ++ dktX3_covered_3
def dkwX3_covered_1 : List UInt8 := [184, 0, 163, 154, 0, 9, 42, 4, 182, 0, 190, 172, 42, 182, 1, 2, 3, 62, 27, 17, 252, 24]
abbrev dktX3_covered_1 : List UInt8 := dkwX3_covered_1 ++ dktX3_covered_2
def dkwX3_covered_0 : List UInt8 := [42, 3, 181, 0, 1, 27, 17, 248, 48, 17, 7, 208, 184, 0, 163, 153, 0, 14, 28, 27, 17, 7, 208]
abbrev dktX3_covered_0 : List UInt8 := dkwX3_covered_0 ++ dktX3_covered_1
theorem dksX3_covered_0 : cX3_covered.data.toList.drop 0 = dktX3_covered_0 := by decide +kernel
theorem dksX3_covered_1 : cX3_covered.data.toList.drop 23 = dktX3_covered_1 := dk_seg dksX3_covered_0 23 rfl rfl
theorem dksX3_covered_2 : cX3_covered.data.toList.drop 45 = dktX3_covered_2 := dk_seg dksX3_covered_1 22 rfl rfl
theorem dksX3_covered_3 : cX3_covered.data.toList.drop 69 = dktX3_covered_3 := dk_seg dksX3_covered_2 24 rfl rfl
theorem dX3_covered_0 : decode cX3_covered 0 = .ok (.aload_n 0, 1) := dk_42 (dk_at dksX3_covered_0 0 rfl rfl)
theorem dX3_covered_1 : decode cX3_covered 1 = .ok (.iconst 0, 1) := dk_3 (dk_at dksX3_covered_0 1 rfl rfl)
theorem dX3_covered_2 : decode cX3_covered 2 = .ok (.putfield 1, 3) := dk_181 0 1 (dk_at dksX3_covered_0 2 rfl rfl)
theorem dX3_covered_5 : decode cX3_covered 5 = .ok (.iload_n 1, 1) := dk_27 (dk_at dksX3_covered_0 5 rfl rfl)
theorem dX3_covered_6 : decode cX3_covered 6 = .ok (.sipush (-2000), 3) := dk_17 248 48 (dk_at dksX3_covered_0 6 rfl rfl)
theorem dX3_covered_9 : decode cX3_covered 9 = .ok (.sipush 2000, 3) := dk_17 7 208 (dk_at dksX3_covered_0 9 rfl rfl)
theorem dX3_covered_12 : decode cX3_covered 12 = .ok (.invokestatic 163, 3) := dk_184 0 163 (dk_at dksX3_covered_0 12 rfl rfl)
theorem dX3_covered_15 : decode cX3_covered 15 = .ok (.ifCond .eq 14, 3) := dk_153 0 14 (dk_at dksX3_covered_0 15 rfl rfl)
theorem dX3_covered_18 : decode cX3_covered 18 = .ok (.iload_n 2, 1) := dk_28 (dk_at dksX3_covered_0 18 rfl rfl)
theorem dX3_covered_19 : decode cX3_covered 19 = .ok (.iload_n 1, 1) := dk_27 (dk_at dksX3_covered_0 19 rfl rfl)
theorem dX3_covered_20 : decode cX3_covered 20 = .ok (.sipush 2000, 3) := dk_17 7 208 (dk_at dksX3_covered_0 20 rfl rfl)
theorem dX3_covered_23 : decode cX3_covered 23 = .ok (.invokestatic 163, 3) := dk_184 0 163 (dk_at dksX3_covered_1 0 rfl rfl)
theorem dX3_covered_26 : decode cX3_covered 26 = .ok (.ifCond .ne 9, 3) := dk_154 0 9 (dk_at dksX3_covered_1 3 rfl rfl)
theorem dX3_covered_29 : decode cX3_covered 29 = .ok (.aload_n 0, 1) := dk_42 (dk_at dksX3_covered_1 6 rfl rfl)
theorem dX3_covered_30 : decode cX3_covered 30 = .ok (.iconst 1, 1) := dk_4 (dk_at dksX3_covered_1 7 rfl rfl)
theorem dX3_covered_31 : decode cX3_covered 31 = .ok (.invokevirtual 190, 3) := dk_182 0 190 (dk_at dksX3_covered_1 8 rfl rfl)
theorem dX3_covered_34 : decode cX3_covered 34 = .ok (.ireturn, 1) := dk_172 (dk_at dksX3_covered_1 11 rfl rfl)
theorem dX3_covered_35 : decode cX3_covered 35 = .ok (.aload_n 0, 1) := dk_42 (dk_at dksX3_covered_1 12 rfl rfl)
theorem dX3_covered_36 : decode cX3_covered 36 = .ok (.invokevirtual 258, 3) := dk_182 1 2 (dk_at dksX3_covered_1 13 rfl rfl)
theorem dX3_covered_39 : decode cX3_covered 39 = .ok (.iconst 0, 1) := dk_3 (dk_at dksX3_covered_1 16 rfl rfl)
theorem dX3_covered_40 : decode cX3_covered 40 = .ok (.istore_n 3, 1) := dk_62 (dk_at dksX3_covered_1 17 rfl rfl)
theorem dX3_covered_41 : decode cX3_covered 41 = .ok (.iload_n 1, 1) := dk_27 (dk_at dksX3_covered_1 18 rfl rfl)
theorem dX3_covered_42 : decode cX3_covered 42 = .ok (.sipush (-1000), 3) := dk_17 252 24 (dk_at dksX3_covered_1 19 rfl rfl)
theorem dX3_covered_45 : decode cX3_covered 45 = .ok (.invokestatic 215, 3) := dk_184 0 215 (dk_at dksX3_covered_2 0 rfl rfl)
theorem dX3_covered_48 : decode cX3_covered 48 = .ok (.istore 4, 2) := dk_54 4 (dk_at dksX3_covered_2 3 rfl rfl)
theorem dX3_covered_50 : decode cX3_covered 50 = .ok (.iload 4, 2) := dk_21 4 (dk_at dksX3_covered_2 5 rfl rfl)
theorem dX3_covered_52 : decode cX3_covered 52 = .ok (.iload_n 2, 1) := dk_28 (dk_at dksX3_covered_2 7 rfl rfl)
theorem dX3_covered_53 : decode cX3_covered 53 = .ok (.sipush 1000, 3) := dk_17 3 232 (dk_at dksX3_covered_2 8 rfl rfl)
theorem dX3_covered_56 : decode cX3_covered 56 = .ok (.invokestatic 261, 3) := dk_184 1 5 (dk_at dksX3_covered_2 11 rfl rfl)
theorem dX3_covered_59 : decode cX3_covered 59 = .ok (.if_icmp .gt 31, 3) := dk_163 0 31 (dk_at dksX3_covered_2 14 rfl rfl)
theorem dX3_covered_62 : decode cX3_covered 62 = .ok (.iload_n 3, 1) := dk_29 (dk_at dksX3_covered_2 17 rfl rfl)
theorem dX3_covered_63 : decode cX3_covered 63 = .ok (.aload_n 0, 1) := dk_42 (dk_at dksX3_covered_2 18 rfl rfl)
theorem dX3_covered_64 : decode cX3_covered 64 = .ok (.getfield 72, 3) := dk_180 0 72 (dk_at dksX3_covered_2 19 rfl rfl)
theorem dX3_covered_67 : decode cX3_covered 67 = .ok (.iload 4, 2) := dk_21 4 (dk_at dksX3_covered_2 22 rfl rfl)
theorem dX3_covered_69 : decode cX3_covered 69 = .ok (.sipush 1000, 3) := dk_17 3 232 (dk_at dksX3_covered_3 0 rfl rfl)
theorem dX3_covered_72 : decode cX3_covered 72 = .ok (.iadd, 1) := dk_96 (dk_at dksX3_covered_3 3 rfl rfl)
theorem dX3_covered_73 : decode cX3_covered 73 = .ok (.iaload, 1) := dk_46 (dk_at dksX3_covered_3 4 rfl rfl)
theorem dX3_covered_74 : decode cX3_covered 74 = .ok (.ifCond .le 7, 3) := dk_158 0 7 (dk_at dksX3_covered_3 5 rfl rfl)
theorem dX3_covered_77 : decode cX3_covered 77 = .ok (.iconst 1, 1) := dk_4 (dk_at dksX3_covered_3 8 rfl rfl)
theorem dX3_covered_78 : decode cX3_covered 78 = .ok (.goto 4, 3) := dk_167 0 4 (dk_at dksX3_covered_3 9 rfl rfl)
theorem dX3_covered_81 : decode cX3_covered 81 = .ok (.iconst 0, 1) := dk_3 (dk_at dksX3_covered_3 12 rfl rfl)
theorem dX3_covered_82 : decode cX3_covered 82 = .ok (.iadd, 1) := dk_96 (dk_at dksX3_covered_3 13 rfl rfl)
theorem dX3_covered_83 : decode cX3_covered 83 = .ok (.istore_n 3, 1) := dk_62 (dk_at dksX3_covered_3 14 rfl rfl)
theorem dX3_covered_84 : decode cX3_covered 84 = .ok (.iinc 4 1, 3) := dk_132 4 1 (dk_at dksX3_covered_3 15 rfl rfl)
theorem dX3_covered_87 : decode cX3_covered 87 = .ok (.goto (-37), 3) := dk_167 255 219 (dk_at dksX3_covered_3 18 rfl rfl)
theorem dX3_covered_90 : decode cX3_covered 90 = .ok (.iload_n 3, 1) := dk_29 (dk_at dksX3_covered_3 21 rfl rfl)
theorem dX3_covered_91 : decode cX3_covered 91 = .ok (.ireturn, 1) := dk_172 (dk_at dksX3_covered_3 22 rfl rfl)
abbrev cX3_layCover : ByteArray := prog_10_method_58_code
def yX3_layCover : MethodName := ⟨RX3, "layCover", "()V"⟩
def dkwX3_layCover_5 : List UInt8 := [167, 255, 229, 177]
abbrev dktX3_layCover_5 : List UInt8 := dkwX3_layCover_5 ++ []
def dkwX3_layCover_4 : List UInt8 := [162, 0, 26, 42, 180, 0, 72, 27, 92, 46, 42, 180, 0, 72, 27, 4, 100, 46, 96, 79, 132, 1, 1]
abbrev dktX3_layCover_4 : List UInt8 := dkwX3_layCover_4 ++ dktX3_layCover_5
def dkwX3_layCover_3 : List UInt8 := [46, 17, 3, 233, 96, 92, 46, 4, 100, 79, 132, 1, 1, 167, 255, 195, 4, 60, 27, 17, 7, 210]
abbrev dktX3_layCover_3 : List UInt8 := dkwX3_layCover_3 ++ dktX3_layCover_4
def dkwX3_layCover_2 : List UInt8 := [42, 180, 0, 13, 27, 46, 17, 3, 232, 96, 92, 46, 4, 96, 79, 42, 180, 0, 72, 42, 180, 0, 17, 27]
abbrev dktX3_layCover_2 : List UInt8 := dkwX3_layCover_2 ++ dktX3_layCover_3
def dkwX3_layCover_1 : List UInt8 := [27, 42, 180, 0, 42, 162, 0, 59, 42, 180, 0, 23, 27, 46, 153, 0, 6, 167, 0, 41, 42, 180, 0, 72]
abbrev dktX3_layCover_1 : List UInt8 := dkwX3_layCover_1 ++ dktX3_layCover_2
def dkwX3_layCover_0 : List UInt8 := [3, 60, 27, 17, 7, 210, 162, 0, 16, 42, 180, 0, 72, 27, 3, 79, 132, 1, 1, 167, 255, 239, 3, 60]
abbrev dktX3_layCover_0 : List UInt8 := dkwX3_layCover_0 ++ dktX3_layCover_1
theorem dksX3_layCover_0 : cX3_layCover.data.toList.drop 0 = dktX3_layCover_0 := by decide +kernel
theorem dksX3_layCover_1 : cX3_layCover.data.toList.drop 24 = dktX3_layCover_1 := dk_seg dksX3_layCover_0 24 rfl rfl
theorem dksX3_layCover_2 : cX3_layCover.data.toList.drop 48 = dktX3_layCover_2 := dk_seg dksX3_layCover_1 24 rfl rfl
theorem dksX3_layCover_3 : cX3_layCover.data.toList.drop 72 = dktX3_layCover_3 := dk_seg dksX3_layCover_2 24 rfl rfl
theorem dksX3_layCover_4 : cX3_layCover.data.toList.drop 94 = dktX3_layCover_4 := dk_seg dksX3_layCover_3 22 rfl rfl
theorem dksX3_layCover_5 : cX3_layCover.data.toList.drop 117 = dktX3_layCover_5 := dk_seg dksX3_layCover_4 23 rfl rfl
theorem dX3_layCover_0 : decode cX3_layCover 0 = .ok (.iconst 0, 1) := dk_3 (dk_at dksX3_layCover_0 0 rfl rfl)
theorem dX3_layCover_1 : decode cX3_layCover 1 = .ok (.istore_n 1, 1) := dk_60 (dk_at dksX3_layCover_0 1 rfl rfl)
theorem dX3_layCover_2 : decode cX3_layCover 2 = .ok (.iload_n 1, 1) := dk_27 (dk_at dksX3_layCover_0 2 rfl rfl)
theorem dX3_layCover_3 : decode cX3_layCover 3 = .ok (.sipush 2002, 3) := dk_17 7 210 (dk_at dksX3_layCover_0 3 rfl rfl)
theorem dX3_layCover_6 : decode cX3_layCover 6 = .ok (.if_icmp .ge 16, 3) := dk_162 0 16 (dk_at dksX3_layCover_0 6 rfl rfl)
theorem dX3_layCover_9 : decode cX3_layCover 9 = .ok (.aload_n 0, 1) := dk_42 (dk_at dksX3_layCover_0 9 rfl rfl)
theorem dX3_layCover_10 : decode cX3_layCover 10 = .ok (.getfield 72, 3) := dk_180 0 72 (dk_at dksX3_layCover_0 10 rfl rfl)
theorem dX3_layCover_13 : decode cX3_layCover 13 = .ok (.iload_n 1, 1) := dk_27 (dk_at dksX3_layCover_0 13 rfl rfl)
theorem dX3_layCover_14 : decode cX3_layCover 14 = .ok (.iconst 0, 1) := dk_3 (dk_at dksX3_layCover_0 14 rfl rfl)
theorem dX3_layCover_15 : decode cX3_layCover 15 = .ok (.iastore, 1) := dk_79 (dk_at dksX3_layCover_0 15 rfl rfl)
theorem dX3_layCover_16 : decode cX3_layCover 16 = .ok (.iinc 1 1, 3) := dk_132 1 1 (dk_at dksX3_layCover_0 16 rfl rfl)
theorem dX3_layCover_19 : decode cX3_layCover 19 = .ok (.goto (-17), 3) := dk_167 255 239 (dk_at dksX3_layCover_0 19 rfl rfl)
theorem dX3_layCover_22 : decode cX3_layCover 22 = .ok (.iconst 0, 1) := dk_3 (dk_at dksX3_layCover_0 22 rfl rfl)
theorem dX3_layCover_23 : decode cX3_layCover 23 = .ok (.istore_n 1, 1) := dk_60 (dk_at dksX3_layCover_0 23 rfl rfl)
theorem dX3_layCover_24 : decode cX3_layCover 24 = .ok (.iload_n 1, 1) := dk_27 (dk_at dksX3_layCover_1 0 rfl rfl)
theorem dX3_layCover_25 : decode cX3_layCover 25 = .ok (.aload_n 0, 1) := dk_42 (dk_at dksX3_layCover_1 1 rfl rfl)
theorem dX3_layCover_26 : decode cX3_layCover 26 = .ok (.getfield 42, 3) := dk_180 0 42 (dk_at dksX3_layCover_1 2 rfl rfl)
theorem dX3_layCover_29 : decode cX3_layCover 29 = .ok (.if_icmp .ge 59, 3) := dk_162 0 59 (dk_at dksX3_layCover_1 5 rfl rfl)
theorem dX3_layCover_32 : decode cX3_layCover 32 = .ok (.aload_n 0, 1) := dk_42 (dk_at dksX3_layCover_1 8 rfl rfl)
theorem dX3_layCover_33 : decode cX3_layCover 33 = .ok (.getfield 23, 3) := dk_180 0 23 (dk_at dksX3_layCover_1 9 rfl rfl)
theorem dX3_layCover_36 : decode cX3_layCover 36 = .ok (.iload_n 1, 1) := dk_27 (dk_at dksX3_layCover_1 12 rfl rfl)
theorem dX3_layCover_37 : decode cX3_layCover 37 = .ok (.iaload, 1) := dk_46 (dk_at dksX3_layCover_1 13 rfl rfl)
theorem dX3_layCover_38 : decode cX3_layCover 38 = .ok (.ifCond .eq 6, 3) := dk_153 0 6 (dk_at dksX3_layCover_1 14 rfl rfl)
theorem dX3_layCover_41 : decode cX3_layCover 41 = .ok (.goto 41, 3) := dk_167 0 41 (dk_at dksX3_layCover_1 17 rfl rfl)
theorem dX3_layCover_44 : decode cX3_layCover 44 = .ok (.aload_n 0, 1) := dk_42 (dk_at dksX3_layCover_1 20 rfl rfl)
theorem dX3_layCover_45 : decode cX3_layCover 45 = .ok (.getfield 72, 3) := dk_180 0 72 (dk_at dksX3_layCover_1 21 rfl rfl)
theorem dX3_layCover_48 : decode cX3_layCover 48 = .ok (.aload_n 0, 1) := dk_42 (dk_at dksX3_layCover_2 0 rfl rfl)
theorem dX3_layCover_49 : decode cX3_layCover 49 = .ok (.getfield 13, 3) := dk_180 0 13 (dk_at dksX3_layCover_2 1 rfl rfl)
theorem dX3_layCover_52 : decode cX3_layCover 52 = .ok (.iload_n 1, 1) := dk_27 (dk_at dksX3_layCover_2 4 rfl rfl)
theorem dX3_layCover_53 : decode cX3_layCover 53 = .ok (.iaload, 1) := dk_46 (dk_at dksX3_layCover_2 5 rfl rfl)
theorem dX3_layCover_54 : decode cX3_layCover 54 = .ok (.sipush 1000, 3) := dk_17 3 232 (dk_at dksX3_layCover_2 6 rfl rfl)
theorem dX3_layCover_57 : decode cX3_layCover 57 = .ok (.iadd, 1) := dk_96 (dk_at dksX3_layCover_2 9 rfl rfl)
theorem dX3_layCover_58 : decode cX3_layCover 58 = .ok (.dup2, 1) := dk_92 (dk_at dksX3_layCover_2 10 rfl rfl)
theorem dX3_layCover_59 : decode cX3_layCover 59 = .ok (.iaload, 1) := dk_46 (dk_at dksX3_layCover_2 11 rfl rfl)
theorem dX3_layCover_60 : decode cX3_layCover 60 = .ok (.iconst 1, 1) := dk_4 (dk_at dksX3_layCover_2 12 rfl rfl)
theorem dX3_layCover_61 : decode cX3_layCover 61 = .ok (.iadd, 1) := dk_96 (dk_at dksX3_layCover_2 13 rfl rfl)
theorem dX3_layCover_62 : decode cX3_layCover 62 = .ok (.iastore, 1) := dk_79 (dk_at dksX3_layCover_2 14 rfl rfl)
theorem dX3_layCover_63 : decode cX3_layCover 63 = .ok (.aload_n 0, 1) := dk_42 (dk_at dksX3_layCover_2 15 rfl rfl)
theorem dX3_layCover_64 : decode cX3_layCover 64 = .ok (.getfield 72, 3) := dk_180 0 72 (dk_at dksX3_layCover_2 16 rfl rfl)
theorem dX3_layCover_67 : decode cX3_layCover 67 = .ok (.aload_n 0, 1) := dk_42 (dk_at dksX3_layCover_2 19 rfl rfl)
theorem dX3_layCover_68 : decode cX3_layCover 68 = .ok (.getfield 17, 3) := dk_180 0 17 (dk_at dksX3_layCover_2 20 rfl rfl)
theorem dX3_layCover_71 : decode cX3_layCover 71 = .ok (.iload_n 1, 1) := dk_27 (dk_at dksX3_layCover_2 23 rfl rfl)
theorem dX3_layCover_72 : decode cX3_layCover 72 = .ok (.iaload, 1) := dk_46 (dk_at dksX3_layCover_3 0 rfl rfl)
theorem dX3_layCover_73 : decode cX3_layCover 73 = .ok (.sipush 1001, 3) := dk_17 3 233 (dk_at dksX3_layCover_3 1 rfl rfl)
theorem dX3_layCover_76 : decode cX3_layCover 76 = .ok (.iadd, 1) := dk_96 (dk_at dksX3_layCover_3 4 rfl rfl)
theorem dX3_layCover_77 : decode cX3_layCover 77 = .ok (.dup2, 1) := dk_92 (dk_at dksX3_layCover_3 5 rfl rfl)
theorem dX3_layCover_78 : decode cX3_layCover 78 = .ok (.iaload, 1) := dk_46 (dk_at dksX3_layCover_3 6 rfl rfl)
theorem dX3_layCover_79 : decode cX3_layCover 79 = .ok (.iconst 1, 1) := dk_4 (dk_at dksX3_layCover_3 7 rfl rfl)
theorem dX3_layCover_80 : decode cX3_layCover 80 = .ok (.isub, 1) := dk_100 (dk_at dksX3_layCover_3 8 rfl rfl)
theorem dX3_layCover_81 : decode cX3_layCover 81 = .ok (.iastore, 1) := dk_79 (dk_at dksX3_layCover_3 9 rfl rfl)
theorem dX3_layCover_82 : decode cX3_layCover 82 = .ok (.iinc 1 1, 3) := dk_132 1 1 (dk_at dksX3_layCover_3 10 rfl rfl)
theorem dX3_layCover_85 : decode cX3_layCover 85 = .ok (.goto (-61), 3) := dk_167 255 195 (dk_at dksX3_layCover_3 13 rfl rfl)
theorem dX3_layCover_88 : decode cX3_layCover 88 = .ok (.iconst 1, 1) := dk_4 (dk_at dksX3_layCover_3 16 rfl rfl)
theorem dX3_layCover_89 : decode cX3_layCover 89 = .ok (.istore_n 1, 1) := dk_60 (dk_at dksX3_layCover_3 17 rfl rfl)
theorem dX3_layCover_90 : decode cX3_layCover 90 = .ok (.iload_n 1, 1) := dk_27 (dk_at dksX3_layCover_3 18 rfl rfl)
theorem dX3_layCover_91 : decode cX3_layCover 91 = .ok (.sipush 2002, 3) := dk_17 7 210 (dk_at dksX3_layCover_3 19 rfl rfl)
theorem dX3_layCover_94 : decode cX3_layCover 94 = .ok (.if_icmp .ge 26, 3) := dk_162 0 26 (dk_at dksX3_layCover_4 0 rfl rfl)
theorem dX3_layCover_97 : decode cX3_layCover 97 = .ok (.aload_n 0, 1) := dk_42 (dk_at dksX3_layCover_4 3 rfl rfl)
theorem dX3_layCover_98 : decode cX3_layCover 98 = .ok (.getfield 72, 3) := dk_180 0 72 (dk_at dksX3_layCover_4 4 rfl rfl)
theorem dX3_layCover_101 : decode cX3_layCover 101 = .ok (.iload_n 1, 1) := dk_27 (dk_at dksX3_layCover_4 7 rfl rfl)
theorem dX3_layCover_102 : decode cX3_layCover 102 = .ok (.dup2, 1) := dk_92 (dk_at dksX3_layCover_4 8 rfl rfl)
theorem dX3_layCover_103 : decode cX3_layCover 103 = .ok (.iaload, 1) := dk_46 (dk_at dksX3_layCover_4 9 rfl rfl)
theorem dX3_layCover_104 : decode cX3_layCover 104 = .ok (.aload_n 0, 1) := dk_42 (dk_at dksX3_layCover_4 10 rfl rfl)
theorem dX3_layCover_105 : decode cX3_layCover 105 = .ok (.getfield 72, 3) := dk_180 0 72 (dk_at dksX3_layCover_4 11 rfl rfl)
theorem dX3_layCover_108 : decode cX3_layCover 108 = .ok (.iload_n 1, 1) := dk_27 (dk_at dksX3_layCover_4 14 rfl rfl)
theorem dX3_layCover_109 : decode cX3_layCover 109 = .ok (.iconst 1, 1) := dk_4 (dk_at dksX3_layCover_4 15 rfl rfl)
theorem dX3_layCover_110 : decode cX3_layCover 110 = .ok (.isub, 1) := dk_100 (dk_at dksX3_layCover_4 16 rfl rfl)
theorem dX3_layCover_111 : decode cX3_layCover 111 = .ok (.iaload, 1) := dk_46 (dk_at dksX3_layCover_4 17 rfl rfl)
theorem dX3_layCover_112 : decode cX3_layCover 112 = .ok (.iadd, 1) := dk_96 (dk_at dksX3_layCover_4 18 rfl rfl)
theorem dX3_layCover_113 : decode cX3_layCover 113 = .ok (.iastore, 1) := dk_79 (dk_at dksX3_layCover_4 19 rfl rfl)
theorem dX3_layCover_114 : decode cX3_layCover 114 = .ok (.iinc 1 1, 3) := dk_132 1 1 (dk_at dksX3_layCover_4 20 rfl rfl)
theorem dX3_layCover_117 : decode cX3_layCover 117 = .ok (.goto (-27), 3) := dk_167 255 229 (dk_at dksX3_layCover_5 0 rfl rfl)
theorem dX3_layCover_120 : decode cX3_layCover 120 = .ok (.return_, 1) := dk_177 (dk_at dksX3_layCover_5 3 rfl rfl)
abbrev cX3_deepestPoint : ByteArray := prog_10_method_60_code
def yX3_deepestPoint : MethodName := ⟨RX3, "deepestPoint", "()I"⟩
def dkwX3_deepestPoint_2 : List UInt8 := [28, 167, 0, 4, 27, 60, 132, 2, 1, 167, 255, 225, 27, 17, 3, 232, 100, 172]
abbrev dktX3_deepestPoint_2 : List UInt8 := dkwX3_deepestPoint_2 ++ []
def dkwX3_deepestPoint_1 : List UInt8 := [4, 61, 28, 17, 7, 209, 162, 0, 30, 42, 180, 0, 72, 28, 46, 42, 180, 0, 72, 27, 46, 164, 0, 7]
abbrev dktX3_deepestPoint_1 : List UInt8 := dkwX3_deepestPoint_1 ++ dktX3_deepestPoint_2
def dkwX3_deepestPoint_0 : List UInt8 := [42, 3, 181, 0, 1, 42, 182, 0, 202, 154, 0, 9, 42, 4, 182, 0, 190, 172, 42, 182, 1, 2, 3, 60]
abbrev dktX3_deepestPoint_0 : List UInt8 := dkwX3_deepestPoint_0 ++ dktX3_deepestPoint_1
theorem dksX3_deepestPoint_0 : cX3_deepestPoint.data.toList.drop 0 = dktX3_deepestPoint_0 := by decide +kernel
theorem dksX3_deepestPoint_1 : cX3_deepestPoint.data.toList.drop 24 = dktX3_deepestPoint_1 := dk_seg dksX3_deepestPoint_0 24 rfl rfl
theorem dksX3_deepestPoint_2 : cX3_deepestPoint.data.toList.drop 48 = dktX3_deepestPoint_2 := dk_seg dksX3_deepestPoint_1 24 rfl rfl
theorem dX3_deepestPoint_0 : decode cX3_deepestPoint 0 = .ok (.aload_n 0, 1) := dk_42 (dk_at dksX3_deepestPoint_0 0 rfl rfl)
theorem dX3_deepestPoint_1 : decode cX3_deepestPoint 1 = .ok (.iconst 0, 1) := dk_3 (dk_at dksX3_deepestPoint_0 1 rfl rfl)
theorem dX3_deepestPoint_2 : decode cX3_deepestPoint 2 = .ok (.putfield 1, 3) := dk_181 0 1 (dk_at dksX3_deepestPoint_0 2 rfl rfl)
theorem dX3_deepestPoint_5 : decode cX3_deepestPoint 5 = .ok (.aload_n 0, 1) := dk_42 (dk_at dksX3_deepestPoint_0 5 rfl rfl)
theorem dX3_deepestPoint_6 : decode cX3_deepestPoint 6 = .ok (.invokevirtual 202, 3) := dk_182 0 202 (dk_at dksX3_deepestPoint_0 6 rfl rfl)
theorem dX3_deepestPoint_9 : decode cX3_deepestPoint 9 = .ok (.ifCond .ne 9, 3) := dk_154 0 9 (dk_at dksX3_deepestPoint_0 9 rfl rfl)
theorem dX3_deepestPoint_12 : decode cX3_deepestPoint 12 = .ok (.aload_n 0, 1) := dk_42 (dk_at dksX3_deepestPoint_0 12 rfl rfl)
theorem dX3_deepestPoint_13 : decode cX3_deepestPoint 13 = .ok (.iconst 1, 1) := dk_4 (dk_at dksX3_deepestPoint_0 13 rfl rfl)
theorem dX3_deepestPoint_14 : decode cX3_deepestPoint 14 = .ok (.invokevirtual 190, 3) := dk_182 0 190 (dk_at dksX3_deepestPoint_0 14 rfl rfl)
theorem dX3_deepestPoint_17 : decode cX3_deepestPoint 17 = .ok (.ireturn, 1) := dk_172 (dk_at dksX3_deepestPoint_0 17 rfl rfl)
theorem dX3_deepestPoint_18 : decode cX3_deepestPoint 18 = .ok (.aload_n 0, 1) := dk_42 (dk_at dksX3_deepestPoint_0 18 rfl rfl)
theorem dX3_deepestPoint_19 : decode cX3_deepestPoint 19 = .ok (.invokevirtual 258, 3) := dk_182 1 2 (dk_at dksX3_deepestPoint_0 19 rfl rfl)
theorem dX3_deepestPoint_22 : decode cX3_deepestPoint 22 = .ok (.iconst 0, 1) := dk_3 (dk_at dksX3_deepestPoint_0 22 rfl rfl)
theorem dX3_deepestPoint_23 : decode cX3_deepestPoint 23 = .ok (.istore_n 1, 1) := dk_60 (dk_at dksX3_deepestPoint_0 23 rfl rfl)
theorem dX3_deepestPoint_24 : decode cX3_deepestPoint 24 = .ok (.iconst 1, 1) := dk_4 (dk_at dksX3_deepestPoint_1 0 rfl rfl)
theorem dX3_deepestPoint_25 : decode cX3_deepestPoint 25 = .ok (.istore_n 2, 1) := dk_61 (dk_at dksX3_deepestPoint_1 1 rfl rfl)
theorem dX3_deepestPoint_26 : decode cX3_deepestPoint 26 = .ok (.iload_n 2, 1) := dk_28 (dk_at dksX3_deepestPoint_1 2 rfl rfl)
theorem dX3_deepestPoint_27 : decode cX3_deepestPoint 27 = .ok (.sipush 2001, 3) := dk_17 7 209 (dk_at dksX3_deepestPoint_1 3 rfl rfl)
theorem dX3_deepestPoint_30 : decode cX3_deepestPoint 30 = .ok (.if_icmp .ge 30, 3) := dk_162 0 30 (dk_at dksX3_deepestPoint_1 6 rfl rfl)
theorem dX3_deepestPoint_33 : decode cX3_deepestPoint 33 = .ok (.aload_n 0, 1) := dk_42 (dk_at dksX3_deepestPoint_1 9 rfl rfl)
theorem dX3_deepestPoint_34 : decode cX3_deepestPoint 34 = .ok (.getfield 72, 3) := dk_180 0 72 (dk_at dksX3_deepestPoint_1 10 rfl rfl)
theorem dX3_deepestPoint_37 : decode cX3_deepestPoint 37 = .ok (.iload_n 2, 1) := dk_28 (dk_at dksX3_deepestPoint_1 13 rfl rfl)
theorem dX3_deepestPoint_38 : decode cX3_deepestPoint 38 = .ok (.iaload, 1) := dk_46 (dk_at dksX3_deepestPoint_1 14 rfl rfl)
theorem dX3_deepestPoint_39 : decode cX3_deepestPoint 39 = .ok (.aload_n 0, 1) := dk_42 (dk_at dksX3_deepestPoint_1 15 rfl rfl)
theorem dX3_deepestPoint_40 : decode cX3_deepestPoint 40 = .ok (.getfield 72, 3) := dk_180 0 72 (dk_at dksX3_deepestPoint_1 16 rfl rfl)
theorem dX3_deepestPoint_43 : decode cX3_deepestPoint 43 = .ok (.iload_n 1, 1) := dk_27 (dk_at dksX3_deepestPoint_1 19 rfl rfl)
theorem dX3_deepestPoint_44 : decode cX3_deepestPoint 44 = .ok (.iaload, 1) := dk_46 (dk_at dksX3_deepestPoint_1 20 rfl rfl)
theorem dX3_deepestPoint_45 : decode cX3_deepestPoint 45 = .ok (.if_icmp .le 7, 3) := dk_164 0 7 (dk_at dksX3_deepestPoint_1 21 rfl rfl)
theorem dX3_deepestPoint_48 : decode cX3_deepestPoint 48 = .ok (.iload_n 2, 1) := dk_28 (dk_at dksX3_deepestPoint_2 0 rfl rfl)
theorem dX3_deepestPoint_49 : decode cX3_deepestPoint 49 = .ok (.goto 4, 3) := dk_167 0 4 (dk_at dksX3_deepestPoint_2 1 rfl rfl)
theorem dX3_deepestPoint_52 : decode cX3_deepestPoint 52 = .ok (.iload_n 1, 1) := dk_27 (dk_at dksX3_deepestPoint_2 4 rfl rfl)
theorem dX3_deepestPoint_53 : decode cX3_deepestPoint 53 = .ok (.istore_n 1, 1) := dk_60 (dk_at dksX3_deepestPoint_2 5 rfl rfl)
theorem dX3_deepestPoint_54 : decode cX3_deepestPoint 54 = .ok (.iinc 2 1, 3) := dk_132 2 1 (dk_at dksX3_deepestPoint_2 6 rfl rfl)
theorem dX3_deepestPoint_57 : decode cX3_deepestPoint 57 = .ok (.goto (-31), 3) := dk_167 255 225 (dk_at dksX3_deepestPoint_2 9 rfl rfl)
theorem dX3_deepestPoint_60 : decode cX3_deepestPoint 60 = .ok (.iload_n 1, 1) := dk_27 (dk_at dksX3_deepestPoint_2 12 rfl rfl)
theorem dX3_deepestPoint_61 : decode cX3_deepestPoint 61 = .ok (.sipush 1000, 3) := dk_17 3 232 (dk_at dksX3_deepestPoint_2 13 rfl rfl)
theorem dX3_deepestPoint_64 : decode cX3_deepestPoint 64 = .ok (.isub, 1) := dk_100 (dk_at dksX3_deepestPoint_2 16 rfl rfl)
theorem dX3_deepestPoint_65 : decode cX3_deepestPoint 65 = .ok (.ireturn, 1) := dk_172 (dk_at dksX3_deepestPoint_2 17 rfl rfl)
abbrev cX3_overlapCount : ByteArray := prog_10_method_61_code
def yX3_overlapCount : MethodName := ⟨RX3, "overlapCount", "()I"⟩
def dkwX3_overlapCount_3 : List UInt8 := [60, 132, 3, 1, 167, 255, 202, 132, 2, 1, 167, 255, 184, 27, 172]
abbrev dktX3_overlapCount_3 : List UInt8 := dkwX3_overlapCount_3 ++ []
def dkwX3_overlapCount_2 : List UInt8 := [46, 42, 180, 0, 17, 42, 180, 0, 60, 29, 46, 46, 182, 0, 251, 153, 0, 7, 4, 167, 0, 4, 3, 96]
abbrev dktX3_overlapCount_2 : List UInt8 := dkwX3_overlapCount_2 ++ dktX3_overlapCount_3
def dkwX3_overlapCount_1 : List UInt8 := [180, 0, 63, 162, 0, 52, 27, 42, 42, 180, 0, 60, 28, 46, 42, 180, 0, 13, 42, 180, 0, 60, 29, 46]
abbrev dktX3_overlapCount_1 : List UInt8 := dkwX3_overlapCount_1 ++ dktX3_overlapCount_2
def dkwX3_overlapCount_0 : List UInt8 := [42, 182, 0, 187, 3, 60, 3, 61, 28, 42, 180, 0, 63, 162, 0, 70, 28, 4, 96, 62, 29, 42]
abbrev dktX3_overlapCount_0 : List UInt8 := dkwX3_overlapCount_0 ++ dktX3_overlapCount_1
theorem dksX3_overlapCount_0 : cX3_overlapCount.data.toList.drop 0 = dktX3_overlapCount_0 := by decide +kernel
theorem dksX3_overlapCount_1 : cX3_overlapCount.data.toList.drop 22 = dktX3_overlapCount_1 := dk_seg dksX3_overlapCount_0 22 rfl rfl
theorem dksX3_overlapCount_2 : cX3_overlapCount.data.toList.drop 46 = dktX3_overlapCount_2 := dk_seg dksX3_overlapCount_1 24 rfl rfl
theorem dksX3_overlapCount_3 : cX3_overlapCount.data.toList.drop 70 = dktX3_overlapCount_3 := dk_seg dksX3_overlapCount_2 24 rfl rfl
theorem dX3_overlapCount_0 : decode cX3_overlapCount 0 = .ok (.aload_n 0, 1) := dk_42 (dk_at dksX3_overlapCount_0 0 rfl rfl)
theorem dX3_overlapCount_1 : decode cX3_overlapCount 1 = .ok (.invokevirtual 187, 3) := dk_182 0 187 (dk_at dksX3_overlapCount_0 1 rfl rfl)
theorem dX3_overlapCount_4 : decode cX3_overlapCount 4 = .ok (.iconst 0, 1) := dk_3 (dk_at dksX3_overlapCount_0 4 rfl rfl)
theorem dX3_overlapCount_5 : decode cX3_overlapCount 5 = .ok (.istore_n 1, 1) := dk_60 (dk_at dksX3_overlapCount_0 5 rfl rfl)
theorem dX3_overlapCount_6 : decode cX3_overlapCount 6 = .ok (.iconst 0, 1) := dk_3 (dk_at dksX3_overlapCount_0 6 rfl rfl)
theorem dX3_overlapCount_7 : decode cX3_overlapCount 7 = .ok (.istore_n 2, 1) := dk_61 (dk_at dksX3_overlapCount_0 7 rfl rfl)
theorem dX3_overlapCount_8 : decode cX3_overlapCount 8 = .ok (.iload_n 2, 1) := dk_28 (dk_at dksX3_overlapCount_0 8 rfl rfl)
theorem dX3_overlapCount_9 : decode cX3_overlapCount 9 = .ok (.aload_n 0, 1) := dk_42 (dk_at dksX3_overlapCount_0 9 rfl rfl)
theorem dX3_overlapCount_10 : decode cX3_overlapCount 10 = .ok (.getfield 63, 3) := dk_180 0 63 (dk_at dksX3_overlapCount_0 10 rfl rfl)
theorem dX3_overlapCount_13 : decode cX3_overlapCount 13 = .ok (.if_icmp .ge 70, 3) := dk_162 0 70 (dk_at dksX3_overlapCount_0 13 rfl rfl)
theorem dX3_overlapCount_16 : decode cX3_overlapCount 16 = .ok (.iload_n 2, 1) := dk_28 (dk_at dksX3_overlapCount_0 16 rfl rfl)
theorem dX3_overlapCount_17 : decode cX3_overlapCount 17 = .ok (.iconst 1, 1) := dk_4 (dk_at dksX3_overlapCount_0 17 rfl rfl)
theorem dX3_overlapCount_18 : decode cX3_overlapCount 18 = .ok (.iadd, 1) := dk_96 (dk_at dksX3_overlapCount_0 18 rfl rfl)
theorem dX3_overlapCount_19 : decode cX3_overlapCount 19 = .ok (.istore_n 3, 1) := dk_62 (dk_at dksX3_overlapCount_0 19 rfl rfl)
theorem dX3_overlapCount_20 : decode cX3_overlapCount 20 = .ok (.iload_n 3, 1) := dk_29 (dk_at dksX3_overlapCount_0 20 rfl rfl)
theorem dX3_overlapCount_21 : decode cX3_overlapCount 21 = .ok (.aload_n 0, 1) := dk_42 (dk_at dksX3_overlapCount_0 21 rfl rfl)
theorem dX3_overlapCount_22 : decode cX3_overlapCount 22 = .ok (.getfield 63, 3) := dk_180 0 63 (dk_at dksX3_overlapCount_1 0 rfl rfl)
theorem dX3_overlapCount_25 : decode cX3_overlapCount 25 = .ok (.if_icmp .ge 52, 3) := dk_162 0 52 (dk_at dksX3_overlapCount_1 3 rfl rfl)
theorem dX3_overlapCount_28 : decode cX3_overlapCount 28 = .ok (.iload_n 1, 1) := dk_27 (dk_at dksX3_overlapCount_1 6 rfl rfl)
theorem dX3_overlapCount_29 : decode cX3_overlapCount 29 = .ok (.aload_n 0, 1) := dk_42 (dk_at dksX3_overlapCount_1 7 rfl rfl)
theorem dX3_overlapCount_30 : decode cX3_overlapCount 30 = .ok (.aload_n 0, 1) := dk_42 (dk_at dksX3_overlapCount_1 8 rfl rfl)
theorem dX3_overlapCount_31 : decode cX3_overlapCount 31 = .ok (.getfield 60, 3) := dk_180 0 60 (dk_at dksX3_overlapCount_1 9 rfl rfl)
theorem dX3_overlapCount_34 : decode cX3_overlapCount 34 = .ok (.iload_n 2, 1) := dk_28 (dk_at dksX3_overlapCount_1 12 rfl rfl)
theorem dX3_overlapCount_35 : decode cX3_overlapCount 35 = .ok (.iaload, 1) := dk_46 (dk_at dksX3_overlapCount_1 13 rfl rfl)
theorem dX3_overlapCount_36 : decode cX3_overlapCount 36 = .ok (.aload_n 0, 1) := dk_42 (dk_at dksX3_overlapCount_1 14 rfl rfl)
theorem dX3_overlapCount_37 : decode cX3_overlapCount 37 = .ok (.getfield 13, 3) := dk_180 0 13 (dk_at dksX3_overlapCount_1 15 rfl rfl)
theorem dX3_overlapCount_40 : decode cX3_overlapCount 40 = .ok (.aload_n 0, 1) := dk_42 (dk_at dksX3_overlapCount_1 18 rfl rfl)
theorem dX3_overlapCount_41 : decode cX3_overlapCount 41 = .ok (.getfield 60, 3) := dk_180 0 60 (dk_at dksX3_overlapCount_1 19 rfl rfl)
theorem dX3_overlapCount_44 : decode cX3_overlapCount 44 = .ok (.iload_n 3, 1) := dk_29 (dk_at dksX3_overlapCount_1 22 rfl rfl)
theorem dX3_overlapCount_45 : decode cX3_overlapCount 45 = .ok (.iaload, 1) := dk_46 (dk_at dksX3_overlapCount_1 23 rfl rfl)
theorem dX3_overlapCount_46 : decode cX3_overlapCount 46 = .ok (.iaload, 1) := dk_46 (dk_at dksX3_overlapCount_2 0 rfl rfl)
theorem dX3_overlapCount_47 : decode cX3_overlapCount 47 = .ok (.aload_n 0, 1) := dk_42 (dk_at dksX3_overlapCount_2 1 rfl rfl)
theorem dX3_overlapCount_48 : decode cX3_overlapCount 48 = .ok (.getfield 17, 3) := dk_180 0 17 (dk_at dksX3_overlapCount_2 2 rfl rfl)
theorem dX3_overlapCount_51 : decode cX3_overlapCount 51 = .ok (.aload_n 0, 1) := dk_42 (dk_at dksX3_overlapCount_2 5 rfl rfl)
theorem dX3_overlapCount_52 : decode cX3_overlapCount 52 = .ok (.getfield 60, 3) := dk_180 0 60 (dk_at dksX3_overlapCount_2 6 rfl rfl)
theorem dX3_overlapCount_55 : decode cX3_overlapCount 55 = .ok (.iload_n 3, 1) := dk_29 (dk_at dksX3_overlapCount_2 9 rfl rfl)
theorem dX3_overlapCount_56 : decode cX3_overlapCount 56 = .ok (.iaload, 1) := dk_46 (dk_at dksX3_overlapCount_2 10 rfl rfl)
theorem dX3_overlapCount_57 : decode cX3_overlapCount 57 = .ok (.iaload, 1) := dk_46 (dk_at dksX3_overlapCount_2 11 rfl rfl)
theorem dX3_overlapCount_58 : decode cX3_overlapCount 58 = .ok (.invokevirtual 251, 3) := dk_182 0 251 (dk_at dksX3_overlapCount_2 12 rfl rfl)
theorem dX3_overlapCount_61 : decode cX3_overlapCount 61 = .ok (.ifCond .eq 7, 3) := dk_153 0 7 (dk_at dksX3_overlapCount_2 15 rfl rfl)
theorem dX3_overlapCount_64 : decode cX3_overlapCount 64 = .ok (.iconst 1, 1) := dk_4 (dk_at dksX3_overlapCount_2 18 rfl rfl)
theorem dX3_overlapCount_65 : decode cX3_overlapCount 65 = .ok (.goto 4, 3) := dk_167 0 4 (dk_at dksX3_overlapCount_2 19 rfl rfl)
theorem dX3_overlapCount_68 : decode cX3_overlapCount 68 = .ok (.iconst 0, 1) := dk_3 (dk_at dksX3_overlapCount_2 22 rfl rfl)
theorem dX3_overlapCount_69 : decode cX3_overlapCount 69 = .ok (.iadd, 1) := dk_96 (dk_at dksX3_overlapCount_2 23 rfl rfl)
theorem dX3_overlapCount_70 : decode cX3_overlapCount 70 = .ok (.istore_n 1, 1) := dk_60 (dk_at dksX3_overlapCount_3 0 rfl rfl)
theorem dX3_overlapCount_71 : decode cX3_overlapCount 71 = .ok (.iinc 3 1, 3) := dk_132 3 1 (dk_at dksX3_overlapCount_3 1 rfl rfl)
theorem dX3_overlapCount_74 : decode cX3_overlapCount 74 = .ok (.goto (-54), 3) := dk_167 255 202 (dk_at dksX3_overlapCount_3 4 rfl rfl)
theorem dX3_overlapCount_77 : decode cX3_overlapCount 77 = .ok (.iinc 2 1, 3) := dk_132 2 1 (dk_at dksX3_overlapCount_3 7 rfl rfl)
theorem dX3_overlapCount_80 : decode cX3_overlapCount 80 = .ok (.goto (-72), 3) := dk_167 255 184 (dk_at dksX3_overlapCount_3 10 rfl rfl)
theorem dX3_overlapCount_83 : decode cX3_overlapCount 83 = .ok (.iload_n 1, 1) := dk_27 (dk_at dksX3_overlapCount_3 13 rfl rfl)
theorem dX3_overlapCount_84 : decode cX3_overlapCount 84 = .ok (.ireturn, 1) := dk_172 (dk_at dksX3_overlapCount_3 14 rfl rfl)
abbrev cX3_scheduleWeight : ByteArray := prog_10_method_64_code
def yX3_scheduleWeight : MethodName := ⟨RX3, "scheduleWeight", "()I"⟩
def dkwX3_scheduleWeight_0 : List UInt8 := [42, 182, 1, 11, 42, 180, 0, 75, 3, 46, 172]
abbrev dktX3_scheduleWeight_0 : List UInt8 := dkwX3_scheduleWeight_0 ++ []
theorem dksX3_scheduleWeight_0 : cX3_scheduleWeight.data.toList.drop 0 = dktX3_scheduleWeight_0 := by decide +kernel
theorem dX3_scheduleWeight_0 : decode cX3_scheduleWeight 0 = .ok (.aload_n 0, 1) := dk_42 (dk_at dksX3_scheduleWeight_0 0 rfl rfl)
theorem dX3_scheduleWeight_1 : decode cX3_scheduleWeight 1 = .ok (.invokevirtual 267, 3) := dk_182 1 11 (dk_at dksX3_scheduleWeight_0 1 rfl rfl)
theorem dX3_scheduleWeight_4 : decode cX3_scheduleWeight 4 = .ok (.aload_n 0, 1) := dk_42 (dk_at dksX3_scheduleWeight_0 4 rfl rfl)
theorem dX3_scheduleWeight_5 : decode cX3_scheduleWeight 5 = .ok (.getfield 75, 3) := dk_180 0 75 (dk_at dksX3_scheduleWeight_0 5 rfl rfl)
theorem dX3_scheduleWeight_8 : decode cX3_scheduleWeight 8 = .ok (.iconst 0, 1) := dk_3 (dk_at dksX3_scheduleWeight_0 8 rfl rfl)
theorem dX3_scheduleWeight_9 : decode cX3_scheduleWeight 9 = .ok (.iaload, 1) := dk_46 (dk_at dksX3_scheduleWeight_0 9 rfl rfl)
theorem dX3_scheduleWeight_10 : decode cX3_scheduleWeight 10 = .ok (.ireturn, 1) := dk_172 (dk_at dksX3_scheduleWeight_0 10 rfl rfl)
abbrev cX3_layBest : ByteArray := prog_10_method_63_code
def yX3_layBest : MethodName := ⟨RX3, "layBest", "()V"⟩
def dkwX3_layBest_3 : List UInt8 := [184, 0, 215, 79, 132, 1, 255, 167, 255, 200, 177]
abbrev dktX3_layBest_3 : List UInt8 := dkwX3_layBest_3 ++ []
def dkwX3_layBest_2 : List UInt8 := [27, 46, 46, 42, 180, 0, 75, 42, 42, 180, 0, 17, 42, 180, 0, 60, 27, 46, 46, 182, 1, 8, 46, 96]
abbrev dktX3_layBest_2 : List UInt8 := dkwX3_layBest_2 ++ dktX3_layBest_3
def dkwX3_layBest_1 : List UInt8 := [155, 0, 58, 42, 180, 0, 75, 27, 42, 180, 0, 75, 27, 4, 96, 46, 42, 180, 0, 20, 42, 180, 0, 60]
abbrev dktX3_layBest_1 : List UInt8 := dkwX3_layBest_1 ++ dktX3_layBest_2
def dkwX3_layBest_0 : List UInt8 := [42, 182, 0, 187, 42, 180, 0, 75, 42, 180, 0, 63, 3, 79, 42, 180, 0, 63, 4, 100, 60, 27]
abbrev dktX3_layBest_0 : List UInt8 := dkwX3_layBest_0 ++ dktX3_layBest_1
theorem dksX3_layBest_0 : cX3_layBest.data.toList.drop 0 = dktX3_layBest_0 := by decide +kernel
theorem dksX3_layBest_1 : cX3_layBest.data.toList.drop 22 = dktX3_layBest_1 := dk_seg dksX3_layBest_0 22 rfl rfl
theorem dksX3_layBest_2 : cX3_layBest.data.toList.drop 46 = dktX3_layBest_2 := dk_seg dksX3_layBest_1 24 rfl rfl
theorem dksX3_layBest_3 : cX3_layBest.data.toList.drop 70 = dktX3_layBest_3 := dk_seg dksX3_layBest_2 24 rfl rfl
theorem dX3_layBest_0 : decode cX3_layBest 0 = .ok (.aload_n 0, 1) := dk_42 (dk_at dksX3_layBest_0 0 rfl rfl)
theorem dX3_layBest_1 : decode cX3_layBest 1 = .ok (.invokevirtual 187, 3) := dk_182 0 187 (dk_at dksX3_layBest_0 1 rfl rfl)
theorem dX3_layBest_4 : decode cX3_layBest 4 = .ok (.aload_n 0, 1) := dk_42 (dk_at dksX3_layBest_0 4 rfl rfl)
theorem dX3_layBest_5 : decode cX3_layBest 5 = .ok (.getfield 75, 3) := dk_180 0 75 (dk_at dksX3_layBest_0 5 rfl rfl)
theorem dX3_layBest_8 : decode cX3_layBest 8 = .ok (.aload_n 0, 1) := dk_42 (dk_at dksX3_layBest_0 8 rfl rfl)
theorem dX3_layBest_9 : decode cX3_layBest 9 = .ok (.getfield 63, 3) := dk_180 0 63 (dk_at dksX3_layBest_0 9 rfl rfl)
theorem dX3_layBest_12 : decode cX3_layBest 12 = .ok (.iconst 0, 1) := dk_3 (dk_at dksX3_layBest_0 12 rfl rfl)
theorem dX3_layBest_13 : decode cX3_layBest 13 = .ok (.iastore, 1) := dk_79 (dk_at dksX3_layBest_0 13 rfl rfl)
theorem dX3_layBest_14 : decode cX3_layBest 14 = .ok (.aload_n 0, 1) := dk_42 (dk_at dksX3_layBest_0 14 rfl rfl)
theorem dX3_layBest_15 : decode cX3_layBest 15 = .ok (.getfield 63, 3) := dk_180 0 63 (dk_at dksX3_layBest_0 15 rfl rfl)
theorem dX3_layBest_18 : decode cX3_layBest 18 = .ok (.iconst 1, 1) := dk_4 (dk_at dksX3_layBest_0 18 rfl rfl)
theorem dX3_layBest_19 : decode cX3_layBest 19 = .ok (.isub, 1) := dk_100 (dk_at dksX3_layBest_0 19 rfl rfl)
theorem dX3_layBest_20 : decode cX3_layBest 20 = .ok (.istore_n 1, 1) := dk_60 (dk_at dksX3_layBest_0 20 rfl rfl)
theorem dX3_layBest_21 : decode cX3_layBest 21 = .ok (.iload_n 1, 1) := dk_27 (dk_at dksX3_layBest_0 21 rfl rfl)
theorem dX3_layBest_22 : decode cX3_layBest 22 = .ok (.ifCond .lt 58, 3) := dk_155 0 58 (dk_at dksX3_layBest_1 0 rfl rfl)
theorem dX3_layBest_25 : decode cX3_layBest 25 = .ok (.aload_n 0, 1) := dk_42 (dk_at dksX3_layBest_1 3 rfl rfl)
theorem dX3_layBest_26 : decode cX3_layBest 26 = .ok (.getfield 75, 3) := dk_180 0 75 (dk_at dksX3_layBest_1 4 rfl rfl)
theorem dX3_layBest_29 : decode cX3_layBest 29 = .ok (.iload_n 1, 1) := dk_27 (dk_at dksX3_layBest_1 7 rfl rfl)
theorem dX3_layBest_30 : decode cX3_layBest 30 = .ok (.aload_n 0, 1) := dk_42 (dk_at dksX3_layBest_1 8 rfl rfl)
theorem dX3_layBest_31 : decode cX3_layBest 31 = .ok (.getfield 75, 3) := dk_180 0 75 (dk_at dksX3_layBest_1 9 rfl rfl)
theorem dX3_layBest_34 : decode cX3_layBest 34 = .ok (.iload_n 1, 1) := dk_27 (dk_at dksX3_layBest_1 12 rfl rfl)
theorem dX3_layBest_35 : decode cX3_layBest 35 = .ok (.iconst 1, 1) := dk_4 (dk_at dksX3_layBest_1 13 rfl rfl)
theorem dX3_layBest_36 : decode cX3_layBest 36 = .ok (.iadd, 1) := dk_96 (dk_at dksX3_layBest_1 14 rfl rfl)
theorem dX3_layBest_37 : decode cX3_layBest 37 = .ok (.iaload, 1) := dk_46 (dk_at dksX3_layBest_1 15 rfl rfl)
theorem dX3_layBest_38 : decode cX3_layBest 38 = .ok (.aload_n 0, 1) := dk_42 (dk_at dksX3_layBest_1 16 rfl rfl)
theorem dX3_layBest_39 : decode cX3_layBest 39 = .ok (.getfield 20, 3) := dk_180 0 20 (dk_at dksX3_layBest_1 17 rfl rfl)
theorem dX3_layBest_42 : decode cX3_layBest 42 = .ok (.aload_n 0, 1) := dk_42 (dk_at dksX3_layBest_1 20 rfl rfl)
theorem dX3_layBest_43 : decode cX3_layBest 43 = .ok (.getfield 60, 3) := dk_180 0 60 (dk_at dksX3_layBest_1 21 rfl rfl)
theorem dX3_layBest_46 : decode cX3_layBest 46 = .ok (.iload_n 1, 1) := dk_27 (dk_at dksX3_layBest_2 0 rfl rfl)
theorem dX3_layBest_47 : decode cX3_layBest 47 = .ok (.iaload, 1) := dk_46 (dk_at dksX3_layBest_2 1 rfl rfl)
theorem dX3_layBest_48 : decode cX3_layBest 48 = .ok (.iaload, 1) := dk_46 (dk_at dksX3_layBest_2 2 rfl rfl)
theorem dX3_layBest_49 : decode cX3_layBest 49 = .ok (.aload_n 0, 1) := dk_42 (dk_at dksX3_layBest_2 3 rfl rfl)
theorem dX3_layBest_50 : decode cX3_layBest 50 = .ok (.getfield 75, 3) := dk_180 0 75 (dk_at dksX3_layBest_2 4 rfl rfl)
theorem dX3_layBest_53 : decode cX3_layBest 53 = .ok (.aload_n 0, 1) := dk_42 (dk_at dksX3_layBest_2 7 rfl rfl)
theorem dX3_layBest_54 : decode cX3_layBest 54 = .ok (.aload_n 0, 1) := dk_42 (dk_at dksX3_layBest_2 8 rfl rfl)
theorem dX3_layBest_55 : decode cX3_layBest 55 = .ok (.getfield 17, 3) := dk_180 0 17 (dk_at dksX3_layBest_2 9 rfl rfl)
theorem dX3_layBest_58 : decode cX3_layBest 58 = .ok (.aload_n 0, 1) := dk_42 (dk_at dksX3_layBest_2 12 rfl rfl)
theorem dX3_layBest_59 : decode cX3_layBest 59 = .ok (.getfield 60, 3) := dk_180 0 60 (dk_at dksX3_layBest_2 13 rfl rfl)
theorem dX3_layBest_62 : decode cX3_layBest 62 = .ok (.iload_n 1, 1) := dk_27 (dk_at dksX3_layBest_2 16 rfl rfl)
theorem dX3_layBest_63 : decode cX3_layBest 63 = .ok (.iaload, 1) := dk_46 (dk_at dksX3_layBest_2 17 rfl rfl)
theorem dX3_layBest_64 : decode cX3_layBest 64 = .ok (.iaload, 1) := dk_46 (dk_at dksX3_layBest_2 18 rfl rfl)
theorem dX3_layBest_65 : decode cX3_layBest 65 = .ok (.invokevirtual 264, 3) := dk_182 1 8 (dk_at dksX3_layBest_2 19 rfl rfl)
theorem dX3_layBest_68 : decode cX3_layBest 68 = .ok (.iaload, 1) := dk_46 (dk_at dksX3_layBest_2 22 rfl rfl)
theorem dX3_layBest_69 : decode cX3_layBest 69 = .ok (.iadd, 1) := dk_96 (dk_at dksX3_layBest_2 23 rfl rfl)
theorem dX3_layBest_70 : decode cX3_layBest 70 = .ok (.invokestatic 215, 3) := dk_184 0 215 (dk_at dksX3_layBest_3 0 rfl rfl)
theorem dX3_layBest_73 : decode cX3_layBest 73 = .ok (.iastore, 1) := dk_79 (dk_at dksX3_layBest_3 3 rfl rfl)
theorem dX3_layBest_74 : decode cX3_layBest 74 = .ok (.iinc 1 (-1), 3) := dk_132 1 255 (dk_at dksX3_layBest_3 4 rfl rfl)
theorem dX3_layBest_77 : decode cX3_layBest 77 = .ok (.goto (-56), 3) := dk_167 255 200 (dk_at dksX3_layBest_3 7 rfl rfl)
theorem dX3_layBest_80 : decode cX3_layBest 80 = .ok (.return_, 1) := dk_177 (dk_at dksX3_layBest_3 10 rfl rfl)
abbrev cX3_behind : ByteArray := prog_10_method_62_code
def yX3_behind : MethodName := ⟨RX3, "behind", "(I)I"⟩
def dkwX3_behind_1 : List UInt8 := [163, 0, 9, 132, 2, 1, 167, 255, 230, 28, 172]
abbrev dktX3_behind_1 : List UInt8 := dkwX3_behind_1 ++ []
def dkwX3_behind_0 : List UInt8 := [3, 61, 28, 42, 180, 0, 63, 162, 0, 24, 42, 180, 0, 13, 42, 180, 0, 60, 28, 46, 46, 27]
abbrev dktX3_behind_0 : List UInt8 := dkwX3_behind_0 ++ dktX3_behind_1
theorem dksX3_behind_0 : cX3_behind.data.toList.drop 0 = dktX3_behind_0 := by decide +kernel
theorem dksX3_behind_1 : cX3_behind.data.toList.drop 22 = dktX3_behind_1 := dk_seg dksX3_behind_0 22 rfl rfl
theorem dX3_behind_0 : decode cX3_behind 0 = .ok (.iconst 0, 1) := dk_3 (dk_at dksX3_behind_0 0 rfl rfl)
theorem dX3_behind_1 : decode cX3_behind 1 = .ok (.istore_n 2, 1) := dk_61 (dk_at dksX3_behind_0 1 rfl rfl)
theorem dX3_behind_2 : decode cX3_behind 2 = .ok (.iload_n 2, 1) := dk_28 (dk_at dksX3_behind_0 2 rfl rfl)
theorem dX3_behind_3 : decode cX3_behind 3 = .ok (.aload_n 0, 1) := dk_42 (dk_at dksX3_behind_0 3 rfl rfl)
theorem dX3_behind_4 : decode cX3_behind 4 = .ok (.getfield 63, 3) := dk_180 0 63 (dk_at dksX3_behind_0 4 rfl rfl)
theorem dX3_behind_7 : decode cX3_behind 7 = .ok (.if_icmp .ge 24, 3) := dk_162 0 24 (dk_at dksX3_behind_0 7 rfl rfl)
theorem dX3_behind_10 : decode cX3_behind 10 = .ok (.aload_n 0, 1) := dk_42 (dk_at dksX3_behind_0 10 rfl rfl)
theorem dX3_behind_11 : decode cX3_behind 11 = .ok (.getfield 13, 3) := dk_180 0 13 (dk_at dksX3_behind_0 11 rfl rfl)
theorem dX3_behind_14 : decode cX3_behind 14 = .ok (.aload_n 0, 1) := dk_42 (dk_at dksX3_behind_0 14 rfl rfl)
theorem dX3_behind_15 : decode cX3_behind 15 = .ok (.getfield 60, 3) := dk_180 0 60 (dk_at dksX3_behind_0 15 rfl rfl)
theorem dX3_behind_18 : decode cX3_behind 18 = .ok (.iload_n 2, 1) := dk_28 (dk_at dksX3_behind_0 18 rfl rfl)
theorem dX3_behind_19 : decode cX3_behind 19 = .ok (.iaload, 1) := dk_46 (dk_at dksX3_behind_0 19 rfl rfl)
theorem dX3_behind_20 : decode cX3_behind 20 = .ok (.iaload, 1) := dk_46 (dk_at dksX3_behind_0 20 rfl rfl)
theorem dX3_behind_21 : decode cX3_behind 21 = .ok (.iload_n 1, 1) := dk_27 (dk_at dksX3_behind_0 21 rfl rfl)
theorem dX3_behind_22 : decode cX3_behind 22 = .ok (.if_icmp .gt 9, 3) := dk_163 0 9 (dk_at dksX3_behind_1 0 rfl rfl)
theorem dX3_behind_25 : decode cX3_behind 25 = .ok (.iinc 2 1, 3) := dk_132 2 1 (dk_at dksX3_behind_1 3 rfl rfl)
theorem dX3_behind_28 : decode cX3_behind 28 = .ok (.goto (-26), 3) := dk_167 255 230 (dk_at dksX3_behind_1 6 rfl rfl)
theorem dX3_behind_31 : decode cX3_behind 31 = .ok (.iload_n 2, 1) := dk_28 (dk_at dksX3_behind_1 9 rfl rfl)
theorem dX3_behind_32 : decode cX3_behind 32 = .ok (.ireturn, 1) := dk_172 (dk_at dksX3_behind_1 10 rfl rfl)
abbrev cX3_scheduled : ByteArray := prog_10_method_65_code
def yX3_scheduled : MethodName := ⟨RX3, "scheduled", "(I)I"⟩
def dkwX3_scheduled_5 : List UInt8 := [132, 5, 1, 167, 255, 167, 42, 4, 182, 0, 190, 172]
abbrev dktX3_scheduled_5 : List UInt8 := dkwX3_scheduled_5 ++ []
def dkwX3_scheduled_4 : List UInt8 := [132, 3, 1, 28, 42, 180, 0, 20, 21, 6, 46, 96, 61, 42, 180, 0, 17, 21, 6, 46, 54, 4]
abbrev dktX3_scheduled_4 : List UInt8 := dkwX3_scheduled_4 ++ dktX3_scheduled_5
def dkwX3_scheduled_3 : List UInt8 := [4, 96, 46, 96, 42, 180, 0, 75, 3, 46, 160, 0, 6, 167, 0, 33, 29, 27, 160, 0, 6, 21, 6, 172]
abbrev dktX3_scheduled_3 : List UInt8 := dkwX3_scheduled_3 ++ dktX3_scheduled_4
def dkwX3_scheduled_2 : List UInt8 := [54, 6, 42, 180, 0, 13, 21, 6, 46, 21, 4, 163, 0, 6, 167, 0, 56, 28, 42, 180, 0, 75, 21, 5]
abbrev dktX3_scheduled_2 : List UInt8 := dkwX3_scheduled_2 ++ dktX3_scheduled_3
def dkwX3_scheduled_1 : List UInt8 := [17, 252, 23, 54, 4, 3, 54, 5, 21, 5, 42, 180, 0, 63, 162, 0, 86, 42, 180, 0, 60, 21, 5, 46]
abbrev dktX3_scheduled_1 : List UInt8 := dkwX3_scheduled_1 ++ dktX3_scheduled_2
def dkwX3_scheduled_0 : List UInt8 := [42, 3, 181, 0, 1, 27, 156, 0, 9, 42, 4, 182, 0, 190, 172, 42, 182, 1, 11, 3, 61, 3, 62]
abbrev dktX3_scheduled_0 : List UInt8 := dkwX3_scheduled_0 ++ dktX3_scheduled_1
theorem dksX3_scheduled_0 : cX3_scheduled.data.toList.drop 0 = dktX3_scheduled_0 := by decide +kernel
theorem dksX3_scheduled_1 : cX3_scheduled.data.toList.drop 23 = dktX3_scheduled_1 := dk_seg dksX3_scheduled_0 23 rfl rfl
theorem dksX3_scheduled_2 : cX3_scheduled.data.toList.drop 47 = dktX3_scheduled_2 := dk_seg dksX3_scheduled_1 24 rfl rfl
theorem dksX3_scheduled_3 : cX3_scheduled.data.toList.drop 71 = dktX3_scheduled_3 := dk_seg dksX3_scheduled_2 24 rfl rfl
theorem dksX3_scheduled_4 : cX3_scheduled.data.toList.drop 95 = dktX3_scheduled_4 := dk_seg dksX3_scheduled_3 24 rfl rfl
theorem dksX3_scheduled_5 : cX3_scheduled.data.toList.drop 117 = dktX3_scheduled_5 := dk_seg dksX3_scheduled_4 22 rfl rfl
theorem dX3_scheduled_0 : decode cX3_scheduled 0 = .ok (.aload_n 0, 1) := dk_42 (dk_at dksX3_scheduled_0 0 rfl rfl)
theorem dX3_scheduled_1 : decode cX3_scheduled 1 = .ok (.iconst 0, 1) := dk_3 (dk_at dksX3_scheduled_0 1 rfl rfl)
theorem dX3_scheduled_2 : decode cX3_scheduled 2 = .ok (.putfield 1, 3) := dk_181 0 1 (dk_at dksX3_scheduled_0 2 rfl rfl)
theorem dX3_scheduled_5 : decode cX3_scheduled 5 = .ok (.iload_n 1, 1) := dk_27 (dk_at dksX3_scheduled_0 5 rfl rfl)
theorem dX3_scheduled_6 : decode cX3_scheduled 6 = .ok (.ifCond .ge 9, 3) := dk_156 0 9 (dk_at dksX3_scheduled_0 6 rfl rfl)
theorem dX3_scheduled_9 : decode cX3_scheduled 9 = .ok (.aload_n 0, 1) := dk_42 (dk_at dksX3_scheduled_0 9 rfl rfl)
theorem dX3_scheduled_10 : decode cX3_scheduled 10 = .ok (.iconst 1, 1) := dk_4 (dk_at dksX3_scheduled_0 10 rfl rfl)
theorem dX3_scheduled_11 : decode cX3_scheduled 11 = .ok (.invokevirtual 190, 3) := dk_182 0 190 (dk_at dksX3_scheduled_0 11 rfl rfl)
theorem dX3_scheduled_14 : decode cX3_scheduled 14 = .ok (.ireturn, 1) := dk_172 (dk_at dksX3_scheduled_0 14 rfl rfl)
theorem dX3_scheduled_15 : decode cX3_scheduled 15 = .ok (.aload_n 0, 1) := dk_42 (dk_at dksX3_scheduled_0 15 rfl rfl)
theorem dX3_scheduled_16 : decode cX3_scheduled 16 = .ok (.invokevirtual 267, 3) := dk_182 1 11 (dk_at dksX3_scheduled_0 16 rfl rfl)
theorem dX3_scheduled_19 : decode cX3_scheduled 19 = .ok (.iconst 0, 1) := dk_3 (dk_at dksX3_scheduled_0 19 rfl rfl)
theorem dX3_scheduled_20 : decode cX3_scheduled 20 = .ok (.istore_n 2, 1) := dk_61 (dk_at dksX3_scheduled_0 20 rfl rfl)
theorem dX3_scheduled_21 : decode cX3_scheduled 21 = .ok (.iconst 0, 1) := dk_3 (dk_at dksX3_scheduled_0 21 rfl rfl)
theorem dX3_scheduled_22 : decode cX3_scheduled 22 = .ok (.istore_n 3, 1) := dk_62 (dk_at dksX3_scheduled_0 22 rfl rfl)
theorem dX3_scheduled_23 : decode cX3_scheduled 23 = .ok (.sipush (-1001), 3) := dk_17 252 23 (dk_at dksX3_scheduled_1 0 rfl rfl)
theorem dX3_scheduled_26 : decode cX3_scheduled 26 = .ok (.istore 4, 2) := dk_54 4 (dk_at dksX3_scheduled_1 3 rfl rfl)
theorem dX3_scheduled_28 : decode cX3_scheduled 28 = .ok (.iconst 0, 1) := dk_3 (dk_at dksX3_scheduled_1 5 rfl rfl)
theorem dX3_scheduled_29 : decode cX3_scheduled 29 = .ok (.istore 5, 2) := dk_54 5 (dk_at dksX3_scheduled_1 6 rfl rfl)
theorem dX3_scheduled_31 : decode cX3_scheduled 31 = .ok (.iload 5, 2) := dk_21 5 (dk_at dksX3_scheduled_1 8 rfl rfl)
theorem dX3_scheduled_33 : decode cX3_scheduled 33 = .ok (.aload_n 0, 1) := dk_42 (dk_at dksX3_scheduled_1 10 rfl rfl)
theorem dX3_scheduled_34 : decode cX3_scheduled 34 = .ok (.getfield 63, 3) := dk_180 0 63 (dk_at dksX3_scheduled_1 11 rfl rfl)
theorem dX3_scheduled_37 : decode cX3_scheduled 37 = .ok (.if_icmp .ge 86, 3) := dk_162 0 86 (dk_at dksX3_scheduled_1 14 rfl rfl)
theorem dX3_scheduled_40 : decode cX3_scheduled 40 = .ok (.aload_n 0, 1) := dk_42 (dk_at dksX3_scheduled_1 17 rfl rfl)
theorem dX3_scheduled_41 : decode cX3_scheduled 41 = .ok (.getfield 60, 3) := dk_180 0 60 (dk_at dksX3_scheduled_1 18 rfl rfl)
theorem dX3_scheduled_44 : decode cX3_scheduled 44 = .ok (.iload 5, 2) := dk_21 5 (dk_at dksX3_scheduled_1 21 rfl rfl)
theorem dX3_scheduled_46 : decode cX3_scheduled 46 = .ok (.iaload, 1) := dk_46 (dk_at dksX3_scheduled_1 23 rfl rfl)
theorem dX3_scheduled_47 : decode cX3_scheduled 47 = .ok (.istore 6, 2) := dk_54 6 (dk_at dksX3_scheduled_2 0 rfl rfl)
theorem dX3_scheduled_49 : decode cX3_scheduled 49 = .ok (.aload_n 0, 1) := dk_42 (dk_at dksX3_scheduled_2 2 rfl rfl)
theorem dX3_scheduled_50 : decode cX3_scheduled 50 = .ok (.getfield 13, 3) := dk_180 0 13 (dk_at dksX3_scheduled_2 3 rfl rfl)
theorem dX3_scheduled_53 : decode cX3_scheduled 53 = .ok (.iload 6, 2) := dk_21 6 (dk_at dksX3_scheduled_2 6 rfl rfl)
theorem dX3_scheduled_55 : decode cX3_scheduled 55 = .ok (.iaload, 1) := dk_46 (dk_at dksX3_scheduled_2 8 rfl rfl)
theorem dX3_scheduled_56 : decode cX3_scheduled 56 = .ok (.iload 4, 2) := dk_21 4 (dk_at dksX3_scheduled_2 9 rfl rfl)
theorem dX3_scheduled_58 : decode cX3_scheduled 58 = .ok (.if_icmp .gt 6, 3) := dk_163 0 6 (dk_at dksX3_scheduled_2 11 rfl rfl)
theorem dX3_scheduled_61 : decode cX3_scheduled 61 = .ok (.goto 56, 3) := dk_167 0 56 (dk_at dksX3_scheduled_2 14 rfl rfl)
theorem dX3_scheduled_64 : decode cX3_scheduled 64 = .ok (.iload_n 2, 1) := dk_28 (dk_at dksX3_scheduled_2 17 rfl rfl)
theorem dX3_scheduled_65 : decode cX3_scheduled 65 = .ok (.aload_n 0, 1) := dk_42 (dk_at dksX3_scheduled_2 18 rfl rfl)
theorem dX3_scheduled_66 : decode cX3_scheduled 66 = .ok (.getfield 75, 3) := dk_180 0 75 (dk_at dksX3_scheduled_2 19 rfl rfl)
theorem dX3_scheduled_69 : decode cX3_scheduled 69 = .ok (.iload 5, 2) := dk_21 5 (dk_at dksX3_scheduled_2 22 rfl rfl)
theorem dX3_scheduled_71 : decode cX3_scheduled 71 = .ok (.iconst 1, 1) := dk_4 (dk_at dksX3_scheduled_3 0 rfl rfl)
theorem dX3_scheduled_72 : decode cX3_scheduled 72 = .ok (.iadd, 1) := dk_96 (dk_at dksX3_scheduled_3 1 rfl rfl)
theorem dX3_scheduled_73 : decode cX3_scheduled 73 = .ok (.iaload, 1) := dk_46 (dk_at dksX3_scheduled_3 2 rfl rfl)
theorem dX3_scheduled_74 : decode cX3_scheduled 74 = .ok (.iadd, 1) := dk_96 (dk_at dksX3_scheduled_3 3 rfl rfl)
theorem dX3_scheduled_75 : decode cX3_scheduled 75 = .ok (.aload_n 0, 1) := dk_42 (dk_at dksX3_scheduled_3 4 rfl rfl)
theorem dX3_scheduled_76 : decode cX3_scheduled 76 = .ok (.getfield 75, 3) := dk_180 0 75 (dk_at dksX3_scheduled_3 5 rfl rfl)
theorem dX3_scheduled_79 : decode cX3_scheduled 79 = .ok (.iconst 0, 1) := dk_3 (dk_at dksX3_scheduled_3 8 rfl rfl)
theorem dX3_scheduled_80 : decode cX3_scheduled 80 = .ok (.iaload, 1) := dk_46 (dk_at dksX3_scheduled_3 9 rfl rfl)
theorem dX3_scheduled_81 : decode cX3_scheduled 81 = .ok (.if_icmp .ne 6, 3) := dk_160 0 6 (dk_at dksX3_scheduled_3 10 rfl rfl)
theorem dX3_scheduled_84 : decode cX3_scheduled 84 = .ok (.goto 33, 3) := dk_167 0 33 (dk_at dksX3_scheduled_3 13 rfl rfl)
theorem dX3_scheduled_87 : decode cX3_scheduled 87 = .ok (.iload_n 3, 1) := dk_29 (dk_at dksX3_scheduled_3 16 rfl rfl)
theorem dX3_scheduled_88 : decode cX3_scheduled 88 = .ok (.iload_n 1, 1) := dk_27 (dk_at dksX3_scheduled_3 17 rfl rfl)
theorem dX3_scheduled_89 : decode cX3_scheduled 89 = .ok (.if_icmp .ne 6, 3) := dk_160 0 6 (dk_at dksX3_scheduled_3 18 rfl rfl)
theorem dX3_scheduled_92 : decode cX3_scheduled 92 = .ok (.iload 6, 2) := dk_21 6 (dk_at dksX3_scheduled_3 21 rfl rfl)
theorem dX3_scheduled_94 : decode cX3_scheduled 94 = .ok (.ireturn, 1) := dk_172 (dk_at dksX3_scheduled_3 23 rfl rfl)
theorem dX3_scheduled_95 : decode cX3_scheduled 95 = .ok (.iinc 3 1, 3) := dk_132 3 1 (dk_at dksX3_scheduled_4 0 rfl rfl)
theorem dX3_scheduled_98 : decode cX3_scheduled 98 = .ok (.iload_n 2, 1) := dk_28 (dk_at dksX3_scheduled_4 3 rfl rfl)
theorem dX3_scheduled_99 : decode cX3_scheduled 99 = .ok (.aload_n 0, 1) := dk_42 (dk_at dksX3_scheduled_4 4 rfl rfl)
theorem dX3_scheduled_100 : decode cX3_scheduled 100 = .ok (.getfield 20, 3) := dk_180 0 20 (dk_at dksX3_scheduled_4 5 rfl rfl)
theorem dX3_scheduled_103 : decode cX3_scheduled 103 = .ok (.iload 6, 2) := dk_21 6 (dk_at dksX3_scheduled_4 8 rfl rfl)
theorem dX3_scheduled_105 : decode cX3_scheduled 105 = .ok (.iaload, 1) := dk_46 (dk_at dksX3_scheduled_4 10 rfl rfl)
theorem dX3_scheduled_106 : decode cX3_scheduled 106 = .ok (.iadd, 1) := dk_96 (dk_at dksX3_scheduled_4 11 rfl rfl)
theorem dX3_scheduled_107 : decode cX3_scheduled 107 = .ok (.istore_n 2, 1) := dk_61 (dk_at dksX3_scheduled_4 12 rfl rfl)
theorem dX3_scheduled_108 : decode cX3_scheduled 108 = .ok (.aload_n 0, 1) := dk_42 (dk_at dksX3_scheduled_4 13 rfl rfl)
theorem dX3_scheduled_109 : decode cX3_scheduled 109 = .ok (.getfield 17, 3) := dk_180 0 17 (dk_at dksX3_scheduled_4 14 rfl rfl)
theorem dX3_scheduled_112 : decode cX3_scheduled 112 = .ok (.iload 6, 2) := dk_21 6 (dk_at dksX3_scheduled_4 17 rfl rfl)
theorem dX3_scheduled_114 : decode cX3_scheduled 114 = .ok (.iaload, 1) := dk_46 (dk_at dksX3_scheduled_4 19 rfl rfl)
theorem dX3_scheduled_115 : decode cX3_scheduled 115 = .ok (.istore 4, 2) := dk_54 4 (dk_at dksX3_scheduled_4 20 rfl rfl)
theorem dX3_scheduled_117 : decode cX3_scheduled 117 = .ok (.iinc 5 1, 3) := dk_132 5 1 (dk_at dksX3_scheduled_5 0 rfl rfl)
theorem dX3_scheduled_120 : decode cX3_scheduled 120 = .ok (.goto (-89), 3) := dk_167 255 167 (dk_at dksX3_scheduled_5 3 rfl rfl)
theorem dX3_scheduled_123 : decode cX3_scheduled 123 = .ok (.aload_n 0, 1) := dk_42 (dk_at dksX3_scheduled_5 6 rfl rfl)
theorem dX3_scheduled_124 : decode cX3_scheduled 124 = .ok (.iconst 1, 1) := dk_4 (dk_at dksX3_scheduled_5 7 rfl rfl)
theorem dX3_scheduled_125 : decode cX3_scheduled 125 = .ok (.invokevirtual 190, 3) := dk_182 0 190 (dk_at dksX3_scheduled_5 8 rfl rfl)
theorem dX3_scheduled_128 : decode cX3_scheduled 128 = .ok (.ireturn, 1) := dk_172 (dk_at dksX3_scheduled_5 11 rfl rfl)
abbrev cX3_piercingPoint : ByteArray := prog_10_method_66_code
def yX3_piercingPoint : MethodName := ⟨RX3, "piercingPoint", "(I)I"⟩
def dkwX3_piercingPoint_4 : List UInt8 := [182, 0, 190, 172, 21, 4, 61, 132, 3, 1, 167, 255, 173, 28, 172]
abbrev dktX3_piercingPoint_4 : List UInt8 := dkwX3_piercingPoint_4 ++ []
def dkwX3_piercingPoint_3 : List UInt8 := [21, 5, 46, 184, 1, 5, 54, 4, 132, 5, 1, 167, 255, 209, 21, 4, 17, 3, 233, 160, 0, 9, 42, 4]
abbrev dktX3_piercingPoint_3 : List UInt8 := dkwX3_piercingPoint_3 ++ dktX3_piercingPoint_4
def dkwX3_piercingPoint_2 : List UInt8 := [21, 5, 46, 154, 0, 28, 42, 180, 0, 13, 21, 5, 46, 28, 164, 0, 17, 21, 4, 42, 180, 0, 17]
abbrev dktX3_piercingPoint_2 : List UInt8 := dkwX3_piercingPoint_2 ++ dktX3_piercingPoint_3
def dkwX3_piercingPoint_1 : List UInt8 := [163, 0, 84, 17, 3, 233, 54, 4, 3, 54, 5, 21, 5, 42, 180, 0, 42, 162, 0, 44, 42, 180, 0, 23]
abbrev dktX3_piercingPoint_1 : List UInt8 := dkwX3_piercingPoint_1 ++ dktX3_piercingPoint_2
def dkwX3_piercingPoint_0 : List UInt8 := [42, 3, 181, 0, 1, 27, 156, 0, 9, 42, 4, 182, 0, 190, 172, 17, 252, 23, 61, 3, 62, 29, 27]
abbrev dktX3_piercingPoint_0 : List UInt8 := dkwX3_piercingPoint_0 ++ dktX3_piercingPoint_1
theorem dksX3_piercingPoint_0 : cX3_piercingPoint.data.toList.drop 0 = dktX3_piercingPoint_0 := by decide +kernel
theorem dksX3_piercingPoint_1 : cX3_piercingPoint.data.toList.drop 23 = dktX3_piercingPoint_1 := dk_seg dksX3_piercingPoint_0 23 rfl rfl
theorem dksX3_piercingPoint_2 : cX3_piercingPoint.data.toList.drop 47 = dktX3_piercingPoint_2 := dk_seg dksX3_piercingPoint_1 24 rfl rfl
theorem dksX3_piercingPoint_3 : cX3_piercingPoint.data.toList.drop 70 = dktX3_piercingPoint_3 := dk_seg dksX3_piercingPoint_2 23 rfl rfl
theorem dksX3_piercingPoint_4 : cX3_piercingPoint.data.toList.drop 94 = dktX3_piercingPoint_4 := dk_seg dksX3_piercingPoint_3 24 rfl rfl
theorem dX3_piercingPoint_0 : decode cX3_piercingPoint 0 = .ok (.aload_n 0, 1) := dk_42 (dk_at dksX3_piercingPoint_0 0 rfl rfl)
theorem dX3_piercingPoint_1 : decode cX3_piercingPoint 1 = .ok (.iconst 0, 1) := dk_3 (dk_at dksX3_piercingPoint_0 1 rfl rfl)
theorem dX3_piercingPoint_2 : decode cX3_piercingPoint 2 = .ok (.putfield 1, 3) := dk_181 0 1 (dk_at dksX3_piercingPoint_0 2 rfl rfl)
theorem dX3_piercingPoint_5 : decode cX3_piercingPoint 5 = .ok (.iload_n 1, 1) := dk_27 (dk_at dksX3_piercingPoint_0 5 rfl rfl)
theorem dX3_piercingPoint_6 : decode cX3_piercingPoint 6 = .ok (.ifCond .ge 9, 3) := dk_156 0 9 (dk_at dksX3_piercingPoint_0 6 rfl rfl)
theorem dX3_piercingPoint_9 : decode cX3_piercingPoint 9 = .ok (.aload_n 0, 1) := dk_42 (dk_at dksX3_piercingPoint_0 9 rfl rfl)
theorem dX3_piercingPoint_10 : decode cX3_piercingPoint 10 = .ok (.iconst 1, 1) := dk_4 (dk_at dksX3_piercingPoint_0 10 rfl rfl)
theorem dX3_piercingPoint_11 : decode cX3_piercingPoint 11 = .ok (.invokevirtual 190, 3) := dk_182 0 190 (dk_at dksX3_piercingPoint_0 11 rfl rfl)
theorem dX3_piercingPoint_14 : decode cX3_piercingPoint 14 = .ok (.ireturn, 1) := dk_172 (dk_at dksX3_piercingPoint_0 14 rfl rfl)
theorem dX3_piercingPoint_15 : decode cX3_piercingPoint 15 = .ok (.sipush (-1001), 3) := dk_17 252 23 (dk_at dksX3_piercingPoint_0 15 rfl rfl)
theorem dX3_piercingPoint_18 : decode cX3_piercingPoint 18 = .ok (.istore_n 2, 1) := dk_61 (dk_at dksX3_piercingPoint_0 18 rfl rfl)
theorem dX3_piercingPoint_19 : decode cX3_piercingPoint 19 = .ok (.iconst 0, 1) := dk_3 (dk_at dksX3_piercingPoint_0 19 rfl rfl)
theorem dX3_piercingPoint_20 : decode cX3_piercingPoint 20 = .ok (.istore_n 3, 1) := dk_62 (dk_at dksX3_piercingPoint_0 20 rfl rfl)
theorem dX3_piercingPoint_21 : decode cX3_piercingPoint 21 = .ok (.iload_n 3, 1) := dk_29 (dk_at dksX3_piercingPoint_0 21 rfl rfl)
theorem dX3_piercingPoint_22 : decode cX3_piercingPoint 22 = .ok (.iload_n 1, 1) := dk_27 (dk_at dksX3_piercingPoint_0 22 rfl rfl)
theorem dX3_piercingPoint_23 : decode cX3_piercingPoint 23 = .ok (.if_icmp .gt 84, 3) := dk_163 0 84 (dk_at dksX3_piercingPoint_1 0 rfl rfl)
theorem dX3_piercingPoint_26 : decode cX3_piercingPoint 26 = .ok (.sipush 1001, 3) := dk_17 3 233 (dk_at dksX3_piercingPoint_1 3 rfl rfl)
theorem dX3_piercingPoint_29 : decode cX3_piercingPoint 29 = .ok (.istore 4, 2) := dk_54 4 (dk_at dksX3_piercingPoint_1 6 rfl rfl)
theorem dX3_piercingPoint_31 : decode cX3_piercingPoint 31 = .ok (.iconst 0, 1) := dk_3 (dk_at dksX3_piercingPoint_1 8 rfl rfl)
theorem dX3_piercingPoint_32 : decode cX3_piercingPoint 32 = .ok (.istore 5, 2) := dk_54 5 (dk_at dksX3_piercingPoint_1 9 rfl rfl)
theorem dX3_piercingPoint_34 : decode cX3_piercingPoint 34 = .ok (.iload 5, 2) := dk_21 5 (dk_at dksX3_piercingPoint_1 11 rfl rfl)
theorem dX3_piercingPoint_36 : decode cX3_piercingPoint 36 = .ok (.aload_n 0, 1) := dk_42 (dk_at dksX3_piercingPoint_1 13 rfl rfl)
theorem dX3_piercingPoint_37 : decode cX3_piercingPoint 37 = .ok (.getfield 42, 3) := dk_180 0 42 (dk_at dksX3_piercingPoint_1 14 rfl rfl)
theorem dX3_piercingPoint_40 : decode cX3_piercingPoint 40 = .ok (.if_icmp .ge 44, 3) := dk_162 0 44 (dk_at dksX3_piercingPoint_1 17 rfl rfl)
theorem dX3_piercingPoint_43 : decode cX3_piercingPoint 43 = .ok (.aload_n 0, 1) := dk_42 (dk_at dksX3_piercingPoint_1 20 rfl rfl)
theorem dX3_piercingPoint_44 : decode cX3_piercingPoint 44 = .ok (.getfield 23, 3) := dk_180 0 23 (dk_at dksX3_piercingPoint_1 21 rfl rfl)
theorem dX3_piercingPoint_47 : decode cX3_piercingPoint 47 = .ok (.iload 5, 2) := dk_21 5 (dk_at dksX3_piercingPoint_2 0 rfl rfl)
theorem dX3_piercingPoint_49 : decode cX3_piercingPoint 49 = .ok (.iaload, 1) := dk_46 (dk_at dksX3_piercingPoint_2 2 rfl rfl)
theorem dX3_piercingPoint_50 : decode cX3_piercingPoint 50 = .ok (.ifCond .ne 28, 3) := dk_154 0 28 (dk_at dksX3_piercingPoint_2 3 rfl rfl)
theorem dX3_piercingPoint_53 : decode cX3_piercingPoint 53 = .ok (.aload_n 0, 1) := dk_42 (dk_at dksX3_piercingPoint_2 6 rfl rfl)
theorem dX3_piercingPoint_54 : decode cX3_piercingPoint 54 = .ok (.getfield 13, 3) := dk_180 0 13 (dk_at dksX3_piercingPoint_2 7 rfl rfl)
theorem dX3_piercingPoint_57 : decode cX3_piercingPoint 57 = .ok (.iload 5, 2) := dk_21 5 (dk_at dksX3_piercingPoint_2 10 rfl rfl)
theorem dX3_piercingPoint_59 : decode cX3_piercingPoint 59 = .ok (.iaload, 1) := dk_46 (dk_at dksX3_piercingPoint_2 12 rfl rfl)
theorem dX3_piercingPoint_60 : decode cX3_piercingPoint 60 = .ok (.iload_n 2, 1) := dk_28 (dk_at dksX3_piercingPoint_2 13 rfl rfl)
theorem dX3_piercingPoint_61 : decode cX3_piercingPoint 61 = .ok (.if_icmp .le 17, 3) := dk_164 0 17 (dk_at dksX3_piercingPoint_2 14 rfl rfl)
theorem dX3_piercingPoint_64 : decode cX3_piercingPoint 64 = .ok (.iload 4, 2) := dk_21 4 (dk_at dksX3_piercingPoint_2 17 rfl rfl)
theorem dX3_piercingPoint_66 : decode cX3_piercingPoint 66 = .ok (.aload_n 0, 1) := dk_42 (dk_at dksX3_piercingPoint_2 19 rfl rfl)
theorem dX3_piercingPoint_67 : decode cX3_piercingPoint 67 = .ok (.getfield 17, 3) := dk_180 0 17 (dk_at dksX3_piercingPoint_2 20 rfl rfl)
theorem dX3_piercingPoint_70 : decode cX3_piercingPoint 70 = .ok (.iload 5, 2) := dk_21 5 (dk_at dksX3_piercingPoint_3 0 rfl rfl)
theorem dX3_piercingPoint_72 : decode cX3_piercingPoint 72 = .ok (.iaload, 1) := dk_46 (dk_at dksX3_piercingPoint_3 2 rfl rfl)
theorem dX3_piercingPoint_73 : decode cX3_piercingPoint 73 = .ok (.invokestatic 261, 3) := dk_184 1 5 (dk_at dksX3_piercingPoint_3 3 rfl rfl)
theorem dX3_piercingPoint_76 : decode cX3_piercingPoint 76 = .ok (.istore 4, 2) := dk_54 4 (dk_at dksX3_piercingPoint_3 6 rfl rfl)
theorem dX3_piercingPoint_78 : decode cX3_piercingPoint 78 = .ok (.iinc 5 1, 3) := dk_132 5 1 (dk_at dksX3_piercingPoint_3 8 rfl rfl)
theorem dX3_piercingPoint_81 : decode cX3_piercingPoint 81 = .ok (.goto (-47), 3) := dk_167 255 209 (dk_at dksX3_piercingPoint_3 11 rfl rfl)
theorem dX3_piercingPoint_84 : decode cX3_piercingPoint 84 = .ok (.iload 4, 2) := dk_21 4 (dk_at dksX3_piercingPoint_3 14 rfl rfl)
theorem dX3_piercingPoint_86 : decode cX3_piercingPoint 86 = .ok (.sipush 1001, 3) := dk_17 3 233 (dk_at dksX3_piercingPoint_3 16 rfl rfl)
theorem dX3_piercingPoint_89 : decode cX3_piercingPoint 89 = .ok (.if_icmp .ne 9, 3) := dk_160 0 9 (dk_at dksX3_piercingPoint_3 19 rfl rfl)
theorem dX3_piercingPoint_92 : decode cX3_piercingPoint 92 = .ok (.aload_n 0, 1) := dk_42 (dk_at dksX3_piercingPoint_3 22 rfl rfl)
theorem dX3_piercingPoint_93 : decode cX3_piercingPoint 93 = .ok (.iconst 1, 1) := dk_4 (dk_at dksX3_piercingPoint_3 23 rfl rfl)
theorem dX3_piercingPoint_94 : decode cX3_piercingPoint 94 = .ok (.invokevirtual 190, 3) := dk_182 0 190 (dk_at dksX3_piercingPoint_4 0 rfl rfl)
theorem dX3_piercingPoint_97 : decode cX3_piercingPoint 97 = .ok (.ireturn, 1) := dk_172 (dk_at dksX3_piercingPoint_4 3 rfl rfl)
theorem dX3_piercingPoint_98 : decode cX3_piercingPoint 98 = .ok (.iload 4, 2) := dk_21 4 (dk_at dksX3_piercingPoint_4 4 rfl rfl)
theorem dX3_piercingPoint_100 : decode cX3_piercingPoint 100 = .ok (.istore_n 2, 1) := dk_61 (dk_at dksX3_piercingPoint_4 6 rfl rfl)
theorem dX3_piercingPoint_101 : decode cX3_piercingPoint 101 = .ok (.iinc 3 1, 3) := dk_132 3 1 (dk_at dksX3_piercingPoint_4 7 rfl rfl)
theorem dX3_piercingPoint_104 : decode cX3_piercingPoint 104 = .ok (.goto (-83), 3) := dk_167 255 173 (dk_at dksX3_piercingPoint_4 10 rfl rfl)
theorem dX3_piercingPoint_107 : decode cX3_piercingPoint 107 = .ok (.iload_n 2, 1) := dk_28 (dk_at dksX3_piercingPoint_4 13 rfl rfl)
theorem dX3_piercingPoint_108 : decode cX3_piercingPoint 108 = .ok (.ireturn, 1) := dk_172 (dk_at dksX3_piercingPoint_4 14 rfl rfl)
abbrev cX3_addRangeFilter : ByteArray := prog_10_method_74_code
def yX3_addRangeFilter : MethodName := ⟨RX3, "addRangeFilter", "(III)I"⟩
def dkwX3_addRangeFilter_1 : List UInt8 := [172, 42, 6, 27, 28, 29, 182, 1, 29, 172]
abbrev dktX3_addRangeFilter_1 : List UInt8 := dkwX3_addRangeFilter_1 ++ []
def dkwX3_addRangeFilter_0 : List UInt8 := [42, 3, 181, 0, 1, 27, 3, 6, 184, 0, 163, 153, 0, 8, 28, 29, 164, 0, 9, 42, 4, 182, 0, 190]
abbrev dktX3_addRangeFilter_0 : List UInt8 := dkwX3_addRangeFilter_0 ++ dktX3_addRangeFilter_1
theorem dksX3_addRangeFilter_0 : cX3_addRangeFilter.data.toList.drop 0 = dktX3_addRangeFilter_0 := by decide +kernel
theorem dksX3_addRangeFilter_1 : cX3_addRangeFilter.data.toList.drop 24 = dktX3_addRangeFilter_1 := dk_seg dksX3_addRangeFilter_0 24 rfl rfl
theorem dX3_addRangeFilter_0 : decode cX3_addRangeFilter 0 = .ok (.aload_n 0, 1) := dk_42 (dk_at dksX3_addRangeFilter_0 0 rfl rfl)
theorem dX3_addRangeFilter_1 : decode cX3_addRangeFilter 1 = .ok (.iconst 0, 1) := dk_3 (dk_at dksX3_addRangeFilter_0 1 rfl rfl)
theorem dX3_addRangeFilter_2 : decode cX3_addRangeFilter 2 = .ok (.putfield 1, 3) := dk_181 0 1 (dk_at dksX3_addRangeFilter_0 2 rfl rfl)
theorem dX3_addRangeFilter_5 : decode cX3_addRangeFilter 5 = .ok (.iload_n 1, 1) := dk_27 (dk_at dksX3_addRangeFilter_0 5 rfl rfl)
theorem dX3_addRangeFilter_6 : decode cX3_addRangeFilter 6 = .ok (.iconst 0, 1) := dk_3 (dk_at dksX3_addRangeFilter_0 6 rfl rfl)
theorem dX3_addRangeFilter_7 : decode cX3_addRangeFilter 7 = .ok (.iconst 3, 1) := dk_6 (dk_at dksX3_addRangeFilter_0 7 rfl rfl)
theorem dX3_addRangeFilter_8 : decode cX3_addRangeFilter 8 = .ok (.invokestatic 163, 3) := dk_184 0 163 (dk_at dksX3_addRangeFilter_0 8 rfl rfl)
theorem dX3_addRangeFilter_11 : decode cX3_addRangeFilter 11 = .ok (.ifCond .eq 8, 3) := dk_153 0 8 (dk_at dksX3_addRangeFilter_0 11 rfl rfl)
theorem dX3_addRangeFilter_14 : decode cX3_addRangeFilter 14 = .ok (.iload_n 2, 1) := dk_28 (dk_at dksX3_addRangeFilter_0 14 rfl rfl)
theorem dX3_addRangeFilter_15 : decode cX3_addRangeFilter 15 = .ok (.iload_n 3, 1) := dk_29 (dk_at dksX3_addRangeFilter_0 15 rfl rfl)
theorem dX3_addRangeFilter_16 : decode cX3_addRangeFilter 16 = .ok (.if_icmp .le 9, 3) := dk_164 0 9 (dk_at dksX3_addRangeFilter_0 16 rfl rfl)
theorem dX3_addRangeFilter_19 : decode cX3_addRangeFilter 19 = .ok (.aload_n 0, 1) := dk_42 (dk_at dksX3_addRangeFilter_0 19 rfl rfl)
theorem dX3_addRangeFilter_20 : decode cX3_addRangeFilter 20 = .ok (.iconst 1, 1) := dk_4 (dk_at dksX3_addRangeFilter_0 20 rfl rfl)
theorem dX3_addRangeFilter_21 : decode cX3_addRangeFilter 21 = .ok (.invokevirtual 190, 3) := dk_182 0 190 (dk_at dksX3_addRangeFilter_0 21 rfl rfl)
theorem dX3_addRangeFilter_24 : decode cX3_addRangeFilter 24 = .ok (.ireturn, 1) := dk_172 (dk_at dksX3_addRangeFilter_1 0 rfl rfl)
theorem dX3_addRangeFilter_25 : decode cX3_addRangeFilter 25 = .ok (.aload_n 0, 1) := dk_42 (dk_at dksX3_addRangeFilter_1 1 rfl rfl)
theorem dX3_addRangeFilter_26 : decode cX3_addRangeFilter 26 = .ok (.iconst 3, 1) := dk_6 (dk_at dksX3_addRangeFilter_1 2 rfl rfl)
theorem dX3_addRangeFilter_27 : decode cX3_addRangeFilter 27 = .ok (.iload_n 1, 1) := dk_27 (dk_at dksX3_addRangeFilter_1 3 rfl rfl)
theorem dX3_addRangeFilter_28 : decode cX3_addRangeFilter 28 = .ok (.iload_n 2, 1) := dk_28 (dk_at dksX3_addRangeFilter_1 4 rfl rfl)
theorem dX3_addRangeFilter_29 : decode cX3_addRangeFilter 29 = .ok (.iload_n 3, 1) := dk_29 (dk_at dksX3_addRangeFilter_1 5 rfl rfl)
theorem dX3_addRangeFilter_30 : decode cX3_addRangeFilter 30 = .ok (.invokevirtual 285, 3) := dk_182 1 29 (dk_at dksX3_addRangeFilter_1 6 rfl rfl)
theorem dX3_addRangeFilter_33 : decode cX3_addRangeFilter 33 = .ok (.ireturn, 1) := dk_172 (dk_at dksX3_addRangeFilter_1 9 rfl rfl)
abbrev cX3_adds : ByteArray := prog_10_method_73_code
def yX3_adds : MethodName := ⟨RX3, "adds", "(IIII)I"⟩
def dkwX3_adds_3 : List UInt8 := [4, 100, 172]
abbrev dktX3_adds_3 : List UInt8 := dkwX3_adds_3 ++ []
def dkwX3_adds_2 : List UInt8 := [180, 0, 90, 42, 180, 0, 78, 21, 4, 79, 42, 89, 180, 0, 78, 4, 96, 181, 0, 78, 42, 180, 0, 78]
abbrev dktX3_adds_2 : List UInt8 := dkwX3_adds_2 ++ dktX3_adds_3
def dkwX3_adds_1 : List UInt8 := [79, 42, 180, 0, 84, 42, 180, 0, 78, 28, 79, 42, 180, 0, 87, 42, 180, 0, 78, 29, 79, 42]
abbrev dktX3_adds_1 : List UInt8 := dkwX3_adds_1 ++ dktX3_adds_2
def dkwX3_adds_0 : List UInt8 := [42, 180, 0, 78, 16, 8, 160, 0, 9, 42, 5, 182, 0, 190, 172, 42, 180, 0, 81, 42, 180, 0, 78, 27]
abbrev dktX3_adds_0 : List UInt8 := dkwX3_adds_0 ++ dktX3_adds_1
theorem dksX3_adds_0 : cX3_adds.data.toList.drop 0 = dktX3_adds_0 := by decide +kernel
theorem dksX3_adds_1 : cX3_adds.data.toList.drop 24 = dktX3_adds_1 := dk_seg dksX3_adds_0 24 rfl rfl
theorem dksX3_adds_2 : cX3_adds.data.toList.drop 46 = dktX3_adds_2 := dk_seg dksX3_adds_1 22 rfl rfl
theorem dksX3_adds_3 : cX3_adds.data.toList.drop 70 = dktX3_adds_3 := dk_seg dksX3_adds_2 24 rfl rfl
theorem dX3_adds_0 : decode cX3_adds 0 = .ok (.aload_n 0, 1) := dk_42 (dk_at dksX3_adds_0 0 rfl rfl)
theorem dX3_adds_1 : decode cX3_adds 1 = .ok (.getfield 78, 3) := dk_180 0 78 (dk_at dksX3_adds_0 1 rfl rfl)
theorem dX3_adds_4 : decode cX3_adds 4 = .ok (.bipush 8, 2) := dk_16 8 (dk_at dksX3_adds_0 4 rfl rfl)
theorem dX3_adds_6 : decode cX3_adds 6 = .ok (.if_icmp .ne 9, 3) := dk_160 0 9 (dk_at dksX3_adds_0 6 rfl rfl)
theorem dX3_adds_9 : decode cX3_adds 9 = .ok (.aload_n 0, 1) := dk_42 (dk_at dksX3_adds_0 9 rfl rfl)
theorem dX3_adds_10 : decode cX3_adds 10 = .ok (.iconst 2, 1) := dk_5 (dk_at dksX3_adds_0 10 rfl rfl)
theorem dX3_adds_11 : decode cX3_adds 11 = .ok (.invokevirtual 190, 3) := dk_182 0 190 (dk_at dksX3_adds_0 11 rfl rfl)
theorem dX3_adds_14 : decode cX3_adds 14 = .ok (.ireturn, 1) := dk_172 (dk_at dksX3_adds_0 14 rfl rfl)
theorem dX3_adds_15 : decode cX3_adds 15 = .ok (.aload_n 0, 1) := dk_42 (dk_at dksX3_adds_0 15 rfl rfl)
theorem dX3_adds_16 : decode cX3_adds 16 = .ok (.getfield 81, 3) := dk_180 0 81 (dk_at dksX3_adds_0 16 rfl rfl)
theorem dX3_adds_19 : decode cX3_adds 19 = .ok (.aload_n 0, 1) := dk_42 (dk_at dksX3_adds_0 19 rfl rfl)
theorem dX3_adds_20 : decode cX3_adds 20 = .ok (.getfield 78, 3) := dk_180 0 78 (dk_at dksX3_adds_0 20 rfl rfl)
theorem dX3_adds_23 : decode cX3_adds 23 = .ok (.iload_n 1, 1) := dk_27 (dk_at dksX3_adds_0 23 rfl rfl)
theorem dX3_adds_24 : decode cX3_adds 24 = .ok (.iastore, 1) := dk_79 (dk_at dksX3_adds_1 0 rfl rfl)
theorem dX3_adds_25 : decode cX3_adds 25 = .ok (.aload_n 0, 1) := dk_42 (dk_at dksX3_adds_1 1 rfl rfl)
theorem dX3_adds_26 : decode cX3_adds 26 = .ok (.getfield 84, 3) := dk_180 0 84 (dk_at dksX3_adds_1 2 rfl rfl)
theorem dX3_adds_29 : decode cX3_adds 29 = .ok (.aload_n 0, 1) := dk_42 (dk_at dksX3_adds_1 5 rfl rfl)
theorem dX3_adds_30 : decode cX3_adds 30 = .ok (.getfield 78, 3) := dk_180 0 78 (dk_at dksX3_adds_1 6 rfl rfl)
theorem dX3_adds_33 : decode cX3_adds 33 = .ok (.iload_n 2, 1) := dk_28 (dk_at dksX3_adds_1 9 rfl rfl)
theorem dX3_adds_34 : decode cX3_adds 34 = .ok (.iastore, 1) := dk_79 (dk_at dksX3_adds_1 10 rfl rfl)
theorem dX3_adds_35 : decode cX3_adds 35 = .ok (.aload_n 0, 1) := dk_42 (dk_at dksX3_adds_1 11 rfl rfl)
theorem dX3_adds_36 : decode cX3_adds 36 = .ok (.getfield 87, 3) := dk_180 0 87 (dk_at dksX3_adds_1 12 rfl rfl)
theorem dX3_adds_39 : decode cX3_adds 39 = .ok (.aload_n 0, 1) := dk_42 (dk_at dksX3_adds_1 15 rfl rfl)
theorem dX3_adds_40 : decode cX3_adds 40 = .ok (.getfield 78, 3) := dk_180 0 78 (dk_at dksX3_adds_1 16 rfl rfl)
theorem dX3_adds_43 : decode cX3_adds 43 = .ok (.iload_n 3, 1) := dk_29 (dk_at dksX3_adds_1 19 rfl rfl)
theorem dX3_adds_44 : decode cX3_adds 44 = .ok (.iastore, 1) := dk_79 (dk_at dksX3_adds_1 20 rfl rfl)
theorem dX3_adds_45 : decode cX3_adds 45 = .ok (.aload_n 0, 1) := dk_42 (dk_at dksX3_adds_1 21 rfl rfl)
theorem dX3_adds_46 : decode cX3_adds 46 = .ok (.getfield 90, 3) := dk_180 0 90 (dk_at dksX3_adds_2 0 rfl rfl)
theorem dX3_adds_49 : decode cX3_adds 49 = .ok (.aload_n 0, 1) := dk_42 (dk_at dksX3_adds_2 3 rfl rfl)
theorem dX3_adds_50 : decode cX3_adds 50 = .ok (.getfield 78, 3) := dk_180 0 78 (dk_at dksX3_adds_2 4 rfl rfl)
theorem dX3_adds_53 : decode cX3_adds 53 = .ok (.iload 4, 2) := dk_21 4 (dk_at dksX3_adds_2 7 rfl rfl)
theorem dX3_adds_55 : decode cX3_adds 55 = .ok (.iastore, 1) := dk_79 (dk_at dksX3_adds_2 9 rfl rfl)
theorem dX3_adds_56 : decode cX3_adds 56 = .ok (.aload_n 0, 1) := dk_42 (dk_at dksX3_adds_2 10 rfl rfl)
theorem dX3_adds_57 : decode cX3_adds 57 = .ok (.dup, 1) := dk_89 (dk_at dksX3_adds_2 11 rfl rfl)
theorem dX3_adds_58 : decode cX3_adds 58 = .ok (.getfield 78, 3) := dk_180 0 78 (dk_at dksX3_adds_2 12 rfl rfl)
theorem dX3_adds_61 : decode cX3_adds 61 = .ok (.iconst 1, 1) := dk_4 (dk_at dksX3_adds_2 15 rfl rfl)
theorem dX3_adds_62 : decode cX3_adds 62 = .ok (.iadd, 1) := dk_96 (dk_at dksX3_adds_2 16 rfl rfl)
theorem dX3_adds_63 : decode cX3_adds 63 = .ok (.putfield 78, 3) := dk_181 0 78 (dk_at dksX3_adds_2 17 rfl rfl)
theorem dX3_adds_66 : decode cX3_adds 66 = .ok (.aload_n 0, 1) := dk_42 (dk_at dksX3_adds_2 20 rfl rfl)
theorem dX3_adds_67 : decode cX3_adds 67 = .ok (.getfield 78, 3) := dk_180 0 78 (dk_at dksX3_adds_2 21 rfl rfl)
theorem dX3_adds_70 : decode cX3_adds 70 = .ok (.iconst 1, 1) := dk_4 (dk_at dksX3_adds_3 0 rfl rfl)
theorem dX3_adds_71 : decode cX3_adds 71 = .ok (.isub, 1) := dk_100 (dk_at dksX3_adds_3 1 rfl rfl)
theorem dX3_adds_72 : decode cX3_adds 72 = .ok (.ireturn, 1) := dk_172 (dk_at dksX3_adds_3 2 rfl rfl)
abbrev cX3_addHeavierFilter : ByteArray := prog_10_method_75_code
def yX3_addHeavierFilter : MethodName := ⟨RX3, "addHeavierFilter", "(I)I"⟩
def dkwX3_addHeavierFilter_1 : List UInt8 := [180, 0, 20, 27, 46, 3, 3, 182, 1, 29, 172]
abbrev dktX3_addHeavierFilter_1 : List UInt8 := dkwX3_addHeavierFilter_1 ++ []
def dkwX3_addHeavierFilter_0 : List UInt8 := [42, 3, 181, 0, 1, 42, 27, 182, 0, 221, 154, 0, 9, 42, 4, 182, 0, 190, 172, 42, 7, 42]
abbrev dktX3_addHeavierFilter_0 : List UInt8 := dkwX3_addHeavierFilter_0 ++ dktX3_addHeavierFilter_1
theorem dksX3_addHeavierFilter_0 : cX3_addHeavierFilter.data.toList.drop 0 = dktX3_addHeavierFilter_0 := by decide +kernel
theorem dksX3_addHeavierFilter_1 : cX3_addHeavierFilter.data.toList.drop 22 = dktX3_addHeavierFilter_1 := dk_seg dksX3_addHeavierFilter_0 22 rfl rfl
theorem dX3_addHeavierFilter_0 : decode cX3_addHeavierFilter 0 = .ok (.aload_n 0, 1) := dk_42 (dk_at dksX3_addHeavierFilter_0 0 rfl rfl)
theorem dX3_addHeavierFilter_1 : decode cX3_addHeavierFilter 1 = .ok (.iconst 0, 1) := dk_3 (dk_at dksX3_addHeavierFilter_0 1 rfl rfl)
theorem dX3_addHeavierFilter_2 : decode cX3_addHeavierFilter 2 = .ok (.putfield 1, 3) := dk_181 0 1 (dk_at dksX3_addHeavierFilter_0 2 rfl rfl)
theorem dX3_addHeavierFilter_5 : decode cX3_addHeavierFilter 5 = .ok (.aload_n 0, 1) := dk_42 (dk_at dksX3_addHeavierFilter_0 5 rfl rfl)
theorem dX3_addHeavierFilter_6 : decode cX3_addHeavierFilter 6 = .ok (.iload_n 1, 1) := dk_27 (dk_at dksX3_addHeavierFilter_0 6 rfl rfl)
theorem dX3_addHeavierFilter_7 : decode cX3_addHeavierFilter 7 = .ok (.invokevirtual 221, 3) := dk_182 0 221 (dk_at dksX3_addHeavierFilter_0 7 rfl rfl)
theorem dX3_addHeavierFilter_10 : decode cX3_addHeavierFilter 10 = .ok (.ifCond .ne 9, 3) := dk_154 0 9 (dk_at dksX3_addHeavierFilter_0 10 rfl rfl)
theorem dX3_addHeavierFilter_13 : decode cX3_addHeavierFilter 13 = .ok (.aload_n 0, 1) := dk_42 (dk_at dksX3_addHeavierFilter_0 13 rfl rfl)
theorem dX3_addHeavierFilter_14 : decode cX3_addHeavierFilter 14 = .ok (.iconst 1, 1) := dk_4 (dk_at dksX3_addHeavierFilter_0 14 rfl rfl)
theorem dX3_addHeavierFilter_15 : decode cX3_addHeavierFilter 15 = .ok (.invokevirtual 190, 3) := dk_182 0 190 (dk_at dksX3_addHeavierFilter_0 15 rfl rfl)
theorem dX3_addHeavierFilter_18 : decode cX3_addHeavierFilter 18 = .ok (.ireturn, 1) := dk_172 (dk_at dksX3_addHeavierFilter_0 18 rfl rfl)
theorem dX3_addHeavierFilter_19 : decode cX3_addHeavierFilter 19 = .ok (.aload_n 0, 1) := dk_42 (dk_at dksX3_addHeavierFilter_0 19 rfl rfl)
theorem dX3_addHeavierFilter_20 : decode cX3_addHeavierFilter 20 = .ok (.iconst 4, 1) := dk_7 (dk_at dksX3_addHeavierFilter_0 20 rfl rfl)
theorem dX3_addHeavierFilter_21 : decode cX3_addHeavierFilter 21 = .ok (.aload_n 0, 1) := dk_42 (dk_at dksX3_addHeavierFilter_0 21 rfl rfl)
theorem dX3_addHeavierFilter_22 : decode cX3_addHeavierFilter 22 = .ok (.getfield 20, 3) := dk_180 0 20 (dk_at dksX3_addHeavierFilter_1 0 rfl rfl)
theorem dX3_addHeavierFilter_25 : decode cX3_addHeavierFilter 25 = .ok (.iload_n 1, 1) := dk_27 (dk_at dksX3_addHeavierFilter_1 3 rfl rfl)
theorem dX3_addHeavierFilter_26 : decode cX3_addHeavierFilter 26 = .ok (.iaload, 1) := dk_46 (dk_at dksX3_addHeavierFilter_1 4 rfl rfl)
theorem dX3_addHeavierFilter_27 : decode cX3_addHeavierFilter 27 = .ok (.iconst 0, 1) := dk_3 (dk_at dksX3_addHeavierFilter_1 5 rfl rfl)
theorem dX3_addHeavierFilter_28 : decode cX3_addHeavierFilter 28 = .ok (.iconst 0, 1) := dk_3 (dk_at dksX3_addHeavierFilter_1 6 rfl rfl)
theorem dX3_addHeavierFilter_29 : decode cX3_addHeavierFilter 29 = .ok (.invokevirtual 285, 3) := dk_182 1 29 (dk_at dksX3_addHeavierFilter_1 7 rfl rfl)
theorem dX3_addHeavierFilter_32 : decode cX3_addHeavierFilter 32 = .ok (.ireturn, 1) := dk_172 (dk_at dksX3_addHeavierFilter_1 10 rfl rfl)
abbrev cX3_addCombinedFilter : ByteArray := prog_10_method_76_code
def yX3_addCombinedFilter : MethodName := ⟨RX3, "addCombinedFilter", "(III)I"⟩
def dkwX3_addCombinedFilter_1 : List UInt8 := [182, 1, 32, 154, 0, 9, 42, 4, 182, 0, 190, 172, 42, 8, 27, 28, 29, 182, 1, 29, 172]
abbrev dktX3_addCombinedFilter_1 : List UInt8 := dkwX3_addCombinedFilter_1 ++ []
def dkwX3_addCombinedFilter_0 : List UInt8 := [42, 3, 181, 0, 1, 27, 3, 5, 184, 0, 163, 153, 0, 19, 42, 28, 182, 1, 32, 153, 0, 11, 42, 29]
abbrev dktX3_addCombinedFilter_0 : List UInt8 := dkwX3_addCombinedFilter_0 ++ dktX3_addCombinedFilter_1
theorem dksX3_addCombinedFilter_0 : cX3_addCombinedFilter.data.toList.drop 0 = dktX3_addCombinedFilter_0 := by decide +kernel
theorem dksX3_addCombinedFilter_1 : cX3_addCombinedFilter.data.toList.drop 24 = dktX3_addCombinedFilter_1 := dk_seg dksX3_addCombinedFilter_0 24 rfl rfl
theorem dX3_addCombinedFilter_0 : decode cX3_addCombinedFilter 0 = .ok (.aload_n 0, 1) := dk_42 (dk_at dksX3_addCombinedFilter_0 0 rfl rfl)
theorem dX3_addCombinedFilter_1 : decode cX3_addCombinedFilter 1 = .ok (.iconst 0, 1) := dk_3 (dk_at dksX3_addCombinedFilter_0 1 rfl rfl)
theorem dX3_addCombinedFilter_2 : decode cX3_addCombinedFilter 2 = .ok (.putfield 1, 3) := dk_181 0 1 (dk_at dksX3_addCombinedFilter_0 2 rfl rfl)
theorem dX3_addCombinedFilter_5 : decode cX3_addCombinedFilter 5 = .ok (.iload_n 1, 1) := dk_27 (dk_at dksX3_addCombinedFilter_0 5 rfl rfl)
theorem dX3_addCombinedFilter_6 : decode cX3_addCombinedFilter 6 = .ok (.iconst 0, 1) := dk_3 (dk_at dksX3_addCombinedFilter_0 6 rfl rfl)
theorem dX3_addCombinedFilter_7 : decode cX3_addCombinedFilter 7 = .ok (.iconst 2, 1) := dk_5 (dk_at dksX3_addCombinedFilter_0 7 rfl rfl)
theorem dX3_addCombinedFilter_8 : decode cX3_addCombinedFilter 8 = .ok (.invokestatic 163, 3) := dk_184 0 163 (dk_at dksX3_addCombinedFilter_0 8 rfl rfl)
theorem dX3_addCombinedFilter_11 : decode cX3_addCombinedFilter 11 = .ok (.ifCond .eq 19, 3) := dk_153 0 19 (dk_at dksX3_addCombinedFilter_0 11 rfl rfl)
theorem dX3_addCombinedFilter_14 : decode cX3_addCombinedFilter 14 = .ok (.aload_n 0, 1) := dk_42 (dk_at dksX3_addCombinedFilter_0 14 rfl rfl)
theorem dX3_addCombinedFilter_15 : decode cX3_addCombinedFilter 15 = .ok (.iload_n 2, 1) := dk_28 (dk_at dksX3_addCombinedFilter_0 15 rfl rfl)
theorem dX3_addCombinedFilter_16 : decode cX3_addCombinedFilter 16 = .ok (.invokevirtual 288, 3) := dk_182 1 32 (dk_at dksX3_addCombinedFilter_0 16 rfl rfl)
theorem dX3_addCombinedFilter_19 : decode cX3_addCombinedFilter 19 = .ok (.ifCond .eq 11, 3) := dk_153 0 11 (dk_at dksX3_addCombinedFilter_0 19 rfl rfl)
theorem dX3_addCombinedFilter_22 : decode cX3_addCombinedFilter 22 = .ok (.aload_n 0, 1) := dk_42 (dk_at dksX3_addCombinedFilter_0 22 rfl rfl)
theorem dX3_addCombinedFilter_23 : decode cX3_addCombinedFilter 23 = .ok (.iload_n 3, 1) := dk_29 (dk_at dksX3_addCombinedFilter_0 23 rfl rfl)
theorem dX3_addCombinedFilter_24 : decode cX3_addCombinedFilter 24 = .ok (.invokevirtual 288, 3) := dk_182 1 32 (dk_at dksX3_addCombinedFilter_1 0 rfl rfl)
theorem dX3_addCombinedFilter_27 : decode cX3_addCombinedFilter 27 = .ok (.ifCond .ne 9, 3) := dk_154 0 9 (dk_at dksX3_addCombinedFilter_1 3 rfl rfl)
theorem dX3_addCombinedFilter_30 : decode cX3_addCombinedFilter 30 = .ok (.aload_n 0, 1) := dk_42 (dk_at dksX3_addCombinedFilter_1 6 rfl rfl)
theorem dX3_addCombinedFilter_31 : decode cX3_addCombinedFilter 31 = .ok (.iconst 1, 1) := dk_4 (dk_at dksX3_addCombinedFilter_1 7 rfl rfl)
theorem dX3_addCombinedFilter_32 : decode cX3_addCombinedFilter 32 = .ok (.invokevirtual 190, 3) := dk_182 0 190 (dk_at dksX3_addCombinedFilter_1 8 rfl rfl)
theorem dX3_addCombinedFilter_35 : decode cX3_addCombinedFilter 35 = .ok (.ireturn, 1) := dk_172 (dk_at dksX3_addCombinedFilter_1 11 rfl rfl)
theorem dX3_addCombinedFilter_36 : decode cX3_addCombinedFilter 36 = .ok (.aload_n 0, 1) := dk_42 (dk_at dksX3_addCombinedFilter_1 12 rfl rfl)
theorem dX3_addCombinedFilter_37 : decode cX3_addCombinedFilter 37 = .ok (.iconst 5, 1) := dk_8 (dk_at dksX3_addCombinedFilter_1 13 rfl rfl)
theorem dX3_addCombinedFilter_38 : decode cX3_addCombinedFilter 38 = .ok (.iload_n 1, 1) := dk_27 (dk_at dksX3_addCombinedFilter_1 14 rfl rfl)
theorem dX3_addCombinedFilter_39 : decode cX3_addCombinedFilter 39 = .ok (.iload_n 2, 1) := dk_28 (dk_at dksX3_addCombinedFilter_1 15 rfl rfl)
theorem dX3_addCombinedFilter_40 : decode cX3_addCombinedFilter 40 = .ok (.iload_n 3, 1) := dk_29 (dk_at dksX3_addCombinedFilter_1 16 rfl rfl)
theorem dX3_addCombinedFilter_41 : decode cX3_addCombinedFilter 41 = .ok (.invokevirtual 285, 3) := dk_182 1 29 (dk_at dksX3_addCombinedFilter_1 17 rfl rfl)
theorem dX3_addCombinedFilter_44 : decode cX3_addCombinedFilter 44 = .ok (.ireturn, 1) := dk_172 (dk_at dksX3_addCombinedFilter_1 20 rfl rfl)
abbrev cX3_isFilter : ByteArray := prog_10_method_67_code
def yX3_isFilter : MethodName := ⟨RX3, "isFilter", "(I)Z"⟩
def dkwX3_isFilter_0 : List UInt8 := [27, 3, 42, 180, 0, 78, 4, 100, 184, 0, 163, 172]
abbrev dktX3_isFilter_0 : List UInt8 := dkwX3_isFilter_0 ++ []
theorem dksX3_isFilter_0 : cX3_isFilter.data.toList.drop 0 = dktX3_isFilter_0 := by decide +kernel
theorem dX3_isFilter_0 : decode cX3_isFilter 0 = .ok (.iload_n 1, 1) := dk_27 (dk_at dksX3_isFilter_0 0 rfl rfl)
theorem dX3_isFilter_1 : decode cX3_isFilter 1 = .ok (.iconst 0, 1) := dk_3 (dk_at dksX3_isFilter_0 1 rfl rfl)
theorem dX3_isFilter_2 : decode cX3_isFilter 2 = .ok (.aload_n 0, 1) := dk_42 (dk_at dksX3_isFilter_0 2 rfl rfl)
theorem dX3_isFilter_3 : decode cX3_isFilter 3 = .ok (.getfield 78, 3) := dk_180 0 78 (dk_at dksX3_isFilter_0 3 rfl rfl)
theorem dX3_isFilter_6 : decode cX3_isFilter 6 = .ok (.iconst 1, 1) := dk_4 (dk_at dksX3_isFilter_0 6 rfl rfl)
theorem dX3_isFilter_7 : decode cX3_isFilter 7 = .ok (.isub, 1) := dk_100 (dk_at dksX3_isFilter_0 7 rfl rfl)
theorem dX3_isFilter_8 : decode cX3_isFilter 8 = .ok (.invokestatic 163, 3) := dk_184 0 163 (dk_at dksX3_isFilter_0 8 rfl rfl)
theorem dX3_isFilter_11 : decode cX3_isFilter 11 = .ok (.ireturn, 1) := dk_172 (dk_at dksX3_isFilter_0 11 rfl rfl)
abbrev cX3_feed : ByteArray := prog_10_method_77_code
def yX3_feed : MethodName := ⟨RX3, "feed", "(I)I"⟩
def dkwX3_feed_2 : List UInt8 := [42, 89, 180, 0, 111, 4, 96, 181, 0, 111, 42, 180, 0, 111, 172]
abbrev dktX3_feed_2 : List UInt8 := dkwX3_feed_2 ++ []
def dkwX3_feed_1 : List UInt8 := [180, 0, 111, 16, 60, 160, 0, 9, 42, 5, 182, 0, 190, 172, 42, 180, 0, 108, 42, 180, 0, 111, 27, 79]
abbrev dktX3_feed_1 : List UInt8 := dkwX3_feed_1 ++ dktX3_feed_2
def dkwX3_feed_0 : List UInt8 := [42, 3, 181, 0, 1, 27, 3, 17, 0, 255, 184, 0, 163, 154, 0, 9, 42, 4, 182, 0, 190, 172, 42]
abbrev dktX3_feed_0 : List UInt8 := dkwX3_feed_0 ++ dktX3_feed_1
theorem dksX3_feed_0 : cX3_feed.data.toList.drop 0 = dktX3_feed_0 := by decide +kernel
theorem dksX3_feed_1 : cX3_feed.data.toList.drop 23 = dktX3_feed_1 := dk_seg dksX3_feed_0 23 rfl rfl
theorem dksX3_feed_2 : cX3_feed.data.toList.drop 47 = dktX3_feed_2 := dk_seg dksX3_feed_1 24 rfl rfl
theorem dX3_feed_0 : decode cX3_feed 0 = .ok (.aload_n 0, 1) := dk_42 (dk_at dksX3_feed_0 0 rfl rfl)
theorem dX3_feed_1 : decode cX3_feed 1 = .ok (.iconst 0, 1) := dk_3 (dk_at dksX3_feed_0 1 rfl rfl)
theorem dX3_feed_2 : decode cX3_feed 2 = .ok (.putfield 1, 3) := dk_181 0 1 (dk_at dksX3_feed_0 2 rfl rfl)
theorem dX3_feed_5 : decode cX3_feed 5 = .ok (.iload_n 1, 1) := dk_27 (dk_at dksX3_feed_0 5 rfl rfl)
theorem dX3_feed_6 : decode cX3_feed 6 = .ok (.iconst 0, 1) := dk_3 (dk_at dksX3_feed_0 6 rfl rfl)
theorem dX3_feed_7 : decode cX3_feed 7 = .ok (.sipush 255, 3) := dk_17 0 255 (dk_at dksX3_feed_0 7 rfl rfl)
theorem dX3_feed_10 : decode cX3_feed 10 = .ok (.invokestatic 163, 3) := dk_184 0 163 (dk_at dksX3_feed_0 10 rfl rfl)
theorem dX3_feed_13 : decode cX3_feed 13 = .ok (.ifCond .ne 9, 3) := dk_154 0 9 (dk_at dksX3_feed_0 13 rfl rfl)
theorem dX3_feed_16 : decode cX3_feed 16 = .ok (.aload_n 0, 1) := dk_42 (dk_at dksX3_feed_0 16 rfl rfl)
theorem dX3_feed_17 : decode cX3_feed 17 = .ok (.iconst 1, 1) := dk_4 (dk_at dksX3_feed_0 17 rfl rfl)
theorem dX3_feed_18 : decode cX3_feed 18 = .ok (.invokevirtual 190, 3) := dk_182 0 190 (dk_at dksX3_feed_0 18 rfl rfl)
theorem dX3_feed_21 : decode cX3_feed 21 = .ok (.ireturn, 1) := dk_172 (dk_at dksX3_feed_0 21 rfl rfl)
theorem dX3_feed_22 : decode cX3_feed 22 = .ok (.aload_n 0, 1) := dk_42 (dk_at dksX3_feed_0 22 rfl rfl)
theorem dX3_feed_23 : decode cX3_feed 23 = .ok (.getfield 111, 3) := dk_180 0 111 (dk_at dksX3_feed_1 0 rfl rfl)
theorem dX3_feed_26 : decode cX3_feed 26 = .ok (.bipush 60, 2) := dk_16 60 (dk_at dksX3_feed_1 3 rfl rfl)
theorem dX3_feed_28 : decode cX3_feed 28 = .ok (.if_icmp .ne 9, 3) := dk_160 0 9 (dk_at dksX3_feed_1 5 rfl rfl)
theorem dX3_feed_31 : decode cX3_feed 31 = .ok (.aload_n 0, 1) := dk_42 (dk_at dksX3_feed_1 8 rfl rfl)
theorem dX3_feed_32 : decode cX3_feed 32 = .ok (.iconst 2, 1) := dk_5 (dk_at dksX3_feed_1 9 rfl rfl)
theorem dX3_feed_33 : decode cX3_feed 33 = .ok (.invokevirtual 190, 3) := dk_182 0 190 (dk_at dksX3_feed_1 10 rfl rfl)
theorem dX3_feed_36 : decode cX3_feed 36 = .ok (.ireturn, 1) := dk_172 (dk_at dksX3_feed_1 13 rfl rfl)
theorem dX3_feed_37 : decode cX3_feed 37 = .ok (.aload_n 0, 1) := dk_42 (dk_at dksX3_feed_1 14 rfl rfl)
theorem dX3_feed_38 : decode cX3_feed 38 = .ok (.getfield 108, 3) := dk_180 0 108 (dk_at dksX3_feed_1 15 rfl rfl)
theorem dX3_feed_41 : decode cX3_feed 41 = .ok (.aload_n 0, 1) := dk_42 (dk_at dksX3_feed_1 18 rfl rfl)
theorem dX3_feed_42 : decode cX3_feed 42 = .ok (.getfield 111, 3) := dk_180 0 111 (dk_at dksX3_feed_1 19 rfl rfl)
theorem dX3_feed_45 : decode cX3_feed 45 = .ok (.iload_n 1, 1) := dk_27 (dk_at dksX3_feed_1 22 rfl rfl)
theorem dX3_feed_46 : decode cX3_feed 46 = .ok (.iastore, 1) := dk_79 (dk_at dksX3_feed_1 23 rfl rfl)
theorem dX3_feed_47 : decode cX3_feed 47 = .ok (.aload_n 0, 1) := dk_42 (dk_at dksX3_feed_2 0 rfl rfl)
theorem dX3_feed_48 : decode cX3_feed 48 = .ok (.dup, 1) := dk_89 (dk_at dksX3_feed_2 1 rfl rfl)
theorem dX3_feed_49 : decode cX3_feed 49 = .ok (.getfield 111, 3) := dk_180 0 111 (dk_at dksX3_feed_2 2 rfl rfl)
theorem dX3_feed_52 : decode cX3_feed 52 = .ok (.iconst 1, 1) := dk_4 (dk_at dksX3_feed_2 5 rfl rfl)
theorem dX3_feed_53 : decode cX3_feed 53 = .ok (.iadd, 1) := dk_96 (dk_at dksX3_feed_2 6 rfl rfl)
theorem dX3_feed_54 : decode cX3_feed 54 = .ok (.putfield 111, 3) := dk_181 0 111 (dk_at dksX3_feed_2 7 rfl rfl)
theorem dX3_feed_57 : decode cX3_feed 57 = .ok (.aload_n 0, 1) := dk_42 (dk_at dksX3_feed_2 10 rfl rfl)
theorem dX3_feed_58 : decode cX3_feed 58 = .ok (.getfield 111, 3) := dk_180 0 111 (dk_at dksX3_feed_2 11 rfl rfl)
theorem dX3_feed_61 : decode cX3_feed 61 = .ok (.ireturn, 1) := dk_172 (dk_at dksX3_feed_2 14 rfl rfl)
abbrev cX3_parseFilter : ByteArray := prog_10_method_86_code
def yX3_parseFilter : MethodName := ⟨RX3, "parseFilter", "()I"⟩
def dkwX3_parseFilter_4 : List UInt8 := [180, 0, 114, 100, 167, 0, 12, 42, 16, 6, 3, 3, 3, 182, 1, 29, 172]
abbrev dktX3_parseFilter_4 : List UInt8 := dkwX3_parseFilter_4 ++ []
def dkwX3_parseFilter_3 : List UInt8 := [167, 0, 4, 3, 181, 0, 120, 42, 3, 181, 0, 111, 42, 180, 0, 120, 153, 0, 13, 16, 156, 42]
abbrev dktX3_parseFilter_3 : List UInt8 := dkwX3_parseFilter_3 ++ dktX3_parseFilter_4
def dkwX3_parseFilter_2 : List UInt8 := [182, 1, 47, 42, 42, 180, 0, 120, 154, 0, 14, 42, 180, 0, 114, 42, 180, 0, 111, 162, 0, 7, 4]
abbrev dktX3_parseFilter_2 : List UInt8 := dkwX3_parseFilter_2 ++ dktX3_parseFilter_3
def dkwX3_parseFilter_1 : List UInt8 := [181, 0, 114, 42, 3, 181, 0, 117, 42, 3, 181, 0, 120, 42, 180, 0, 93, 42, 180, 0, 78, 3, 79, 42]
abbrev dktX3_parseFilter_1 : List UInt8 := dkwX3_parseFilter_1 ++ dktX3_parseFilter_2
def dkwX3_parseFilter_0 : List UInt8 := [42, 3, 181, 0, 1, 42, 180, 0, 78, 16, 8, 160, 0, 9, 42, 4, 182, 0, 190, 172, 42, 3]
abbrev dktX3_parseFilter_0 : List UInt8 := dkwX3_parseFilter_0 ++ dktX3_parseFilter_1
theorem dksX3_parseFilter_0 : cX3_parseFilter.data.toList.drop 0 = dktX3_parseFilter_0 := by decide +kernel
theorem dksX3_parseFilter_1 : cX3_parseFilter.data.toList.drop 22 = dktX3_parseFilter_1 := dk_seg dksX3_parseFilter_0 22 rfl rfl
theorem dksX3_parseFilter_2 : cX3_parseFilter.data.toList.drop 46 = dktX3_parseFilter_2 := dk_seg dksX3_parseFilter_1 24 rfl rfl
theorem dksX3_parseFilter_3 : cX3_parseFilter.data.toList.drop 69 = dktX3_parseFilter_3 := dk_seg dksX3_parseFilter_2 23 rfl rfl
theorem dksX3_parseFilter_4 : cX3_parseFilter.data.toList.drop 91 = dktX3_parseFilter_4 := dk_seg dksX3_parseFilter_3 22 rfl rfl
theorem dX3_parseFilter_0 : decode cX3_parseFilter 0 = .ok (.aload_n 0, 1) := dk_42 (dk_at dksX3_parseFilter_0 0 rfl rfl)
theorem dX3_parseFilter_1 : decode cX3_parseFilter 1 = .ok (.iconst 0, 1) := dk_3 (dk_at dksX3_parseFilter_0 1 rfl rfl)
theorem dX3_parseFilter_2 : decode cX3_parseFilter 2 = .ok (.putfield 1, 3) := dk_181 0 1 (dk_at dksX3_parseFilter_0 2 rfl rfl)
theorem dX3_parseFilter_5 : decode cX3_parseFilter 5 = .ok (.aload_n 0, 1) := dk_42 (dk_at dksX3_parseFilter_0 5 rfl rfl)
theorem dX3_parseFilter_6 : decode cX3_parseFilter 6 = .ok (.getfield 78, 3) := dk_180 0 78 (dk_at dksX3_parseFilter_0 6 rfl rfl)
theorem dX3_parseFilter_9 : decode cX3_parseFilter 9 = .ok (.bipush 8, 2) := dk_16 8 (dk_at dksX3_parseFilter_0 9 rfl rfl)
theorem dX3_parseFilter_11 : decode cX3_parseFilter 11 = .ok (.if_icmp .ne 9, 3) := dk_160 0 9 (dk_at dksX3_parseFilter_0 11 rfl rfl)
theorem dX3_parseFilter_14 : decode cX3_parseFilter 14 = .ok (.aload_n 0, 1) := dk_42 (dk_at dksX3_parseFilter_0 14 rfl rfl)
theorem dX3_parseFilter_15 : decode cX3_parseFilter 15 = .ok (.iconst 1, 1) := dk_4 (dk_at dksX3_parseFilter_0 15 rfl rfl)
theorem dX3_parseFilter_16 : decode cX3_parseFilter 16 = .ok (.invokevirtual 190, 3) := dk_182 0 190 (dk_at dksX3_parseFilter_0 16 rfl rfl)
theorem dX3_parseFilter_19 : decode cX3_parseFilter 19 = .ok (.ireturn, 1) := dk_172 (dk_at dksX3_parseFilter_0 19 rfl rfl)
theorem dX3_parseFilter_20 : decode cX3_parseFilter 20 = .ok (.aload_n 0, 1) := dk_42 (dk_at dksX3_parseFilter_0 20 rfl rfl)
theorem dX3_parseFilter_21 : decode cX3_parseFilter 21 = .ok (.iconst 0, 1) := dk_3 (dk_at dksX3_parseFilter_0 21 rfl rfl)
theorem dX3_parseFilter_22 : decode cX3_parseFilter 22 = .ok (.putfield 114, 3) := dk_181 0 114 (dk_at dksX3_parseFilter_1 0 rfl rfl)
theorem dX3_parseFilter_25 : decode cX3_parseFilter 25 = .ok (.aload_n 0, 1) := dk_42 (dk_at dksX3_parseFilter_1 3 rfl rfl)
theorem dX3_parseFilter_26 : decode cX3_parseFilter 26 = .ok (.iconst 0, 1) := dk_3 (dk_at dksX3_parseFilter_1 4 rfl rfl)
theorem dX3_parseFilter_27 : decode cX3_parseFilter 27 = .ok (.putfield 117, 3) := dk_181 0 117 (dk_at dksX3_parseFilter_1 5 rfl rfl)
theorem dX3_parseFilter_30 : decode cX3_parseFilter 30 = .ok (.aload_n 0, 1) := dk_42 (dk_at dksX3_parseFilter_1 8 rfl rfl)
theorem dX3_parseFilter_31 : decode cX3_parseFilter 31 = .ok (.iconst 0, 1) := dk_3 (dk_at dksX3_parseFilter_1 9 rfl rfl)
theorem dX3_parseFilter_32 : decode cX3_parseFilter 32 = .ok (.putfield 120, 3) := dk_181 0 120 (dk_at dksX3_parseFilter_1 10 rfl rfl)
theorem dX3_parseFilter_35 : decode cX3_parseFilter 35 = .ok (.aload_n 0, 1) := dk_42 (dk_at dksX3_parseFilter_1 13 rfl rfl)
theorem dX3_parseFilter_36 : decode cX3_parseFilter 36 = .ok (.getfield 93, 3) := dk_180 0 93 (dk_at dksX3_parseFilter_1 14 rfl rfl)
theorem dX3_parseFilter_39 : decode cX3_parseFilter 39 = .ok (.aload_n 0, 1) := dk_42 (dk_at dksX3_parseFilter_1 17 rfl rfl)
theorem dX3_parseFilter_40 : decode cX3_parseFilter 40 = .ok (.getfield 78, 3) := dk_180 0 78 (dk_at dksX3_parseFilter_1 18 rfl rfl)
theorem dX3_parseFilter_43 : decode cX3_parseFilter 43 = .ok (.iconst 0, 1) := dk_3 (dk_at dksX3_parseFilter_1 21 rfl rfl)
theorem dX3_parseFilter_44 : decode cX3_parseFilter 44 = .ok (.iastore, 1) := dk_79 (dk_at dksX3_parseFilter_1 22 rfl rfl)
theorem dX3_parseFilter_45 : decode cX3_parseFilter 45 = .ok (.aload_n 0, 1) := dk_42 (dk_at dksX3_parseFilter_1 23 rfl rfl)
theorem dX3_parseFilter_46 : decode cX3_parseFilter 46 = .ok (.invokevirtual 303, 3) := dk_182 1 47 (dk_at dksX3_parseFilter_2 0 rfl rfl)
theorem dX3_parseFilter_49 : decode cX3_parseFilter 49 = .ok (.aload_n 0, 1) := dk_42 (dk_at dksX3_parseFilter_2 3 rfl rfl)
theorem dX3_parseFilter_50 : decode cX3_parseFilter 50 = .ok (.aload_n 0, 1) := dk_42 (dk_at dksX3_parseFilter_2 4 rfl rfl)
theorem dX3_parseFilter_51 : decode cX3_parseFilter 51 = .ok (.getfield 120, 3) := dk_180 0 120 (dk_at dksX3_parseFilter_2 5 rfl rfl)
theorem dX3_parseFilter_54 : decode cX3_parseFilter 54 = .ok (.ifCond .ne 14, 3) := dk_154 0 14 (dk_at dksX3_parseFilter_2 8 rfl rfl)
theorem dX3_parseFilter_57 : decode cX3_parseFilter 57 = .ok (.aload_n 0, 1) := dk_42 (dk_at dksX3_parseFilter_2 11 rfl rfl)
theorem dX3_parseFilter_58 : decode cX3_parseFilter 58 = .ok (.getfield 114, 3) := dk_180 0 114 (dk_at dksX3_parseFilter_2 12 rfl rfl)
theorem dX3_parseFilter_61 : decode cX3_parseFilter 61 = .ok (.aload_n 0, 1) := dk_42 (dk_at dksX3_parseFilter_2 15 rfl rfl)
theorem dX3_parseFilter_62 : decode cX3_parseFilter 62 = .ok (.getfield 111, 3) := dk_180 0 111 (dk_at dksX3_parseFilter_2 16 rfl rfl)
theorem dX3_parseFilter_65 : decode cX3_parseFilter 65 = .ok (.if_icmp .ge 7, 3) := dk_162 0 7 (dk_at dksX3_parseFilter_2 19 rfl rfl)
theorem dX3_parseFilter_68 : decode cX3_parseFilter 68 = .ok (.iconst 1, 1) := dk_4 (dk_at dksX3_parseFilter_2 22 rfl rfl)
theorem dX3_parseFilter_69 : decode cX3_parseFilter 69 = .ok (.goto 4, 3) := dk_167 0 4 (dk_at dksX3_parseFilter_3 0 rfl rfl)
theorem dX3_parseFilter_72 : decode cX3_parseFilter 72 = .ok (.iconst 0, 1) := dk_3 (dk_at dksX3_parseFilter_3 3 rfl rfl)
theorem dX3_parseFilter_73 : decode cX3_parseFilter 73 = .ok (.putfield 120, 3) := dk_181 0 120 (dk_at dksX3_parseFilter_3 4 rfl rfl)
theorem dX3_parseFilter_76 : decode cX3_parseFilter 76 = .ok (.aload_n 0, 1) := dk_42 (dk_at dksX3_parseFilter_3 7 rfl rfl)
theorem dX3_parseFilter_77 : decode cX3_parseFilter 77 = .ok (.iconst 0, 1) := dk_3 (dk_at dksX3_parseFilter_3 8 rfl rfl)
theorem dX3_parseFilter_78 : decode cX3_parseFilter 78 = .ok (.putfield 111, 3) := dk_181 0 111 (dk_at dksX3_parseFilter_3 9 rfl rfl)
theorem dX3_parseFilter_81 : decode cX3_parseFilter 81 = .ok (.aload_n 0, 1) := dk_42 (dk_at dksX3_parseFilter_3 12 rfl rfl)
theorem dX3_parseFilter_82 : decode cX3_parseFilter 82 = .ok (.getfield 120, 3) := dk_180 0 120 (dk_at dksX3_parseFilter_3 13 rfl rfl)
theorem dX3_parseFilter_85 : decode cX3_parseFilter 85 = .ok (.ifCond .eq 13, 3) := dk_153 0 13 (dk_at dksX3_parseFilter_3 16 rfl rfl)
theorem dX3_parseFilter_88 : decode cX3_parseFilter 88 = .ok (.bipush (-100), 2) := dk_16 156 (dk_at dksX3_parseFilter_3 19 rfl rfl)
theorem dX3_parseFilter_90 : decode cX3_parseFilter 90 = .ok (.aload_n 0, 1) := dk_42 (dk_at dksX3_parseFilter_3 21 rfl rfl)
theorem dX3_parseFilter_91 : decode cX3_parseFilter 91 = .ok (.getfield 114, 3) := dk_180 0 114 (dk_at dksX3_parseFilter_4 0 rfl rfl)
theorem dX3_parseFilter_94 : decode cX3_parseFilter 94 = .ok (.isub, 1) := dk_100 (dk_at dksX3_parseFilter_4 3 rfl rfl)
theorem dX3_parseFilter_95 : decode cX3_parseFilter 95 = .ok (.goto 12, 3) := dk_167 0 12 (dk_at dksX3_parseFilter_4 4 rfl rfl)
theorem dX3_parseFilter_98 : decode cX3_parseFilter 98 = .ok (.aload_n 0, 1) := dk_42 (dk_at dksX3_parseFilter_4 7 rfl rfl)
theorem dX3_parseFilter_99 : decode cX3_parseFilter 99 = .ok (.bipush 6, 2) := dk_16 6 (dk_at dksX3_parseFilter_4 8 rfl rfl)
theorem dX3_parseFilter_101 : decode cX3_parseFilter 101 = .ok (.iconst 0, 1) := dk_3 (dk_at dksX3_parseFilter_4 10 rfl rfl)
theorem dX3_parseFilter_102 : decode cX3_parseFilter 102 = .ok (.iconst 0, 1) := dk_3 (dk_at dksX3_parseFilter_4 11 rfl rfl)
theorem dX3_parseFilter_103 : decode cX3_parseFilter 103 = .ok (.iconst 0, 1) := dk_3 (dk_at dksX3_parseFilter_4 12 rfl rfl)
theorem dX3_parseFilter_104 : decode cX3_parseFilter 104 = .ok (.invokevirtual 285, 3) := dk_182 1 29 (dk_at dksX3_parseFilter_4 13 rfl rfl)
theorem dX3_parseFilter_107 : decode cX3_parseFilter 107 = .ok (.ireturn, 1) := dk_172 (dk_at dksX3_parseFilter_4 16 rfl rfl)
abbrev cX3_readFilter : ByteArray := prog_10_method_81_code
def yX3_readFilter : MethodName := ⟨RX3, "readFilter", "()V"⟩
def dkwX3_readFilter_1 : List UInt8 := [182, 1, 38, 42, 16, 124, 3, 3, 182, 1, 41, 167, 255, 225, 177]
abbrev dktX3_readFilter_1 : List UInt8 := dkwX3_readFilter_1 ++ []
def dkwX3_readFilter_0 : List UInt8 := [42, 182, 1, 38, 42, 182, 1, 35, 16, 124, 160, 0, 28, 42, 89, 180, 0, 114, 4, 96, 181, 0, 114, 42]
abbrev dktX3_readFilter_0 : List UInt8 := dkwX3_readFilter_0 ++ dktX3_readFilter_1
theorem dksX3_readFilter_0 : cX3_readFilter.data.toList.drop 0 = dktX3_readFilter_0 := by decide +kernel
theorem dksX3_readFilter_1 : cX3_readFilter.data.toList.drop 24 = dktX3_readFilter_1 := dk_seg dksX3_readFilter_0 24 rfl rfl
theorem dX3_readFilter_0 : decode cX3_readFilter 0 = .ok (.aload_n 0, 1) := dk_42 (dk_at dksX3_readFilter_0 0 rfl rfl)
theorem dX3_readFilter_1 : decode cX3_readFilter 1 = .ok (.invokevirtual 294, 3) := dk_182 1 38 (dk_at dksX3_readFilter_0 1 rfl rfl)
theorem dX3_readFilter_4 : decode cX3_readFilter 4 = .ok (.aload_n 0, 1) := dk_42 (dk_at dksX3_readFilter_0 4 rfl rfl)
theorem dX3_readFilter_5 : decode cX3_readFilter 5 = .ok (.invokevirtual 291, 3) := dk_182 1 35 (dk_at dksX3_readFilter_0 5 rfl rfl)
theorem dX3_readFilter_8 : decode cX3_readFilter 8 = .ok (.bipush 124, 2) := dk_16 124 (dk_at dksX3_readFilter_0 8 rfl rfl)
theorem dX3_readFilter_10 : decode cX3_readFilter 10 = .ok (.if_icmp .ne 28, 3) := dk_160 0 28 (dk_at dksX3_readFilter_0 10 rfl rfl)
theorem dX3_readFilter_13 : decode cX3_readFilter 13 = .ok (.aload_n 0, 1) := dk_42 (dk_at dksX3_readFilter_0 13 rfl rfl)
theorem dX3_readFilter_14 : decode cX3_readFilter 14 = .ok (.dup, 1) := dk_89 (dk_at dksX3_readFilter_0 14 rfl rfl)
theorem dX3_readFilter_15 : decode cX3_readFilter 15 = .ok (.getfield 114, 3) := dk_180 0 114 (dk_at dksX3_readFilter_0 15 rfl rfl)
theorem dX3_readFilter_18 : decode cX3_readFilter 18 = .ok (.iconst 1, 1) := dk_4 (dk_at dksX3_readFilter_0 18 rfl rfl)
theorem dX3_readFilter_19 : decode cX3_readFilter 19 = .ok (.iadd, 1) := dk_96 (dk_at dksX3_readFilter_0 19 rfl rfl)
theorem dX3_readFilter_20 : decode cX3_readFilter 20 = .ok (.putfield 114, 3) := dk_181 0 114 (dk_at dksX3_readFilter_0 20 rfl rfl)
theorem dX3_readFilter_23 : decode cX3_readFilter 23 = .ok (.aload_n 0, 1) := dk_42 (dk_at dksX3_readFilter_0 23 rfl rfl)
theorem dX3_readFilter_24 : decode cX3_readFilter 24 = .ok (.invokevirtual 294, 3) := dk_182 1 38 (dk_at dksX3_readFilter_1 0 rfl rfl)
theorem dX3_readFilter_27 : decode cX3_readFilter 27 = .ok (.aload_n 0, 1) := dk_42 (dk_at dksX3_readFilter_1 3 rfl rfl)
theorem dX3_readFilter_28 : decode cX3_readFilter 28 = .ok (.bipush 124, 2) := dk_16 124 (dk_at dksX3_readFilter_1 4 rfl rfl)
theorem dX3_readFilter_30 : decode cX3_readFilter 30 = .ok (.iconst 0, 1) := dk_3 (dk_at dksX3_readFilter_1 6 rfl rfl)
theorem dX3_readFilter_31 : decode cX3_readFilter 31 = .ok (.iconst 0, 1) := dk_3 (dk_at dksX3_readFilter_1 7 rfl rfl)
theorem dX3_readFilter_32 : decode cX3_readFilter 32 = .ok (.invokevirtual 297, 3) := dk_182 1 41 (dk_at dksX3_readFilter_1 8 rfl rfl)
theorem dX3_readFilter_35 : decode cX3_readFilter 35 = .ok (.goto (-31), 3) := dk_167 255 225 (dk_at dksX3_readFilter_1 11 rfl rfl)
theorem dX3_readFilter_38 : decode cX3_readFilter 38 = .ok (.return_, 1) := dk_177 (dk_at dksX3_readFilter_1 14 rfl rfl)
abbrev cX3_readTerm : ByteArray := prog_10_method_82_code
def yX3_readTerm : MethodName := ⟨RX3, "readTerm", "()V"⟩
def dkwX3_readTerm_1 : List UInt8 := [182, 1, 44, 42, 16, 38, 3, 3, 182, 1, 41, 167, 255, 225, 177]
abbrev dktX3_readTerm_1 : List UInt8 := dkwX3_readTerm_1 ++ []
def dkwX3_readTerm_0 : List UInt8 := [42, 182, 1, 44, 42, 182, 1, 35, 16, 38, 160, 0, 28, 42, 89, 180, 0, 114, 4, 96, 181, 0, 114, 42]
abbrev dktX3_readTerm_0 : List UInt8 := dkwX3_readTerm_0 ++ dktX3_readTerm_1
theorem dksX3_readTerm_0 : cX3_readTerm.data.toList.drop 0 = dktX3_readTerm_0 := by decide +kernel
theorem dksX3_readTerm_1 : cX3_readTerm.data.toList.drop 24 = dktX3_readTerm_1 := dk_seg dksX3_readTerm_0 24 rfl rfl
theorem dX3_readTerm_0 : decode cX3_readTerm 0 = .ok (.aload_n 0, 1) := dk_42 (dk_at dksX3_readTerm_0 0 rfl rfl)
theorem dX3_readTerm_1 : decode cX3_readTerm 1 = .ok (.invokevirtual 300, 3) := dk_182 1 44 (dk_at dksX3_readTerm_0 1 rfl rfl)
theorem dX3_readTerm_4 : decode cX3_readTerm 4 = .ok (.aload_n 0, 1) := dk_42 (dk_at dksX3_readTerm_0 4 rfl rfl)
theorem dX3_readTerm_5 : decode cX3_readTerm 5 = .ok (.invokevirtual 291, 3) := dk_182 1 35 (dk_at dksX3_readTerm_0 5 rfl rfl)
theorem dX3_readTerm_8 : decode cX3_readTerm 8 = .ok (.bipush 38, 2) := dk_16 38 (dk_at dksX3_readTerm_0 8 rfl rfl)
theorem dX3_readTerm_10 : decode cX3_readTerm 10 = .ok (.if_icmp .ne 28, 3) := dk_160 0 28 (dk_at dksX3_readTerm_0 10 rfl rfl)
theorem dX3_readTerm_13 : decode cX3_readTerm 13 = .ok (.aload_n 0, 1) := dk_42 (dk_at dksX3_readTerm_0 13 rfl rfl)
theorem dX3_readTerm_14 : decode cX3_readTerm 14 = .ok (.dup, 1) := dk_89 (dk_at dksX3_readTerm_0 14 rfl rfl)
theorem dX3_readTerm_15 : decode cX3_readTerm 15 = .ok (.getfield 114, 3) := dk_180 0 114 (dk_at dksX3_readTerm_0 15 rfl rfl)
theorem dX3_readTerm_18 : decode cX3_readTerm 18 = .ok (.iconst 1, 1) := dk_4 (dk_at dksX3_readTerm_0 18 rfl rfl)
theorem dX3_readTerm_19 : decode cX3_readTerm 19 = .ok (.iadd, 1) := dk_96 (dk_at dksX3_readTerm_0 19 rfl rfl)
theorem dX3_readTerm_20 : decode cX3_readTerm 20 = .ok (.putfield 114, 3) := dk_181 0 114 (dk_at dksX3_readTerm_0 20 rfl rfl)
theorem dX3_readTerm_23 : decode cX3_readTerm 23 = .ok (.aload_n 0, 1) := dk_42 (dk_at dksX3_readTerm_0 23 rfl rfl)
theorem dX3_readTerm_24 : decode cX3_readTerm 24 = .ok (.invokevirtual 300, 3) := dk_182 1 44 (dk_at dksX3_readTerm_1 0 rfl rfl)
theorem dX3_readTerm_27 : decode cX3_readTerm 27 = .ok (.aload_n 0, 1) := dk_42 (dk_at dksX3_readTerm_1 3 rfl rfl)
theorem dX3_readTerm_28 : decode cX3_readTerm 28 = .ok (.bipush 38, 2) := dk_16 38 (dk_at dksX3_readTerm_1 4 rfl rfl)
theorem dX3_readTerm_30 : decode cX3_readTerm 30 = .ok (.iconst 0, 1) := dk_3 (dk_at dksX3_readTerm_1 6 rfl rfl)
theorem dX3_readTerm_31 : decode cX3_readTerm 31 = .ok (.iconst 0, 1) := dk_3 (dk_at dksX3_readTerm_1 7 rfl rfl)
theorem dX3_readTerm_32 : decode cX3_readTerm 32 = .ok (.invokevirtual 297, 3) := dk_182 1 41 (dk_at dksX3_readTerm_1 8 rfl rfl)
theorem dX3_readTerm_35 : decode cX3_readTerm 35 = .ok (.goto (-31), 3) := dk_167 255 225 (dk_at dksX3_readTerm_1 11 rfl rfl)
theorem dX3_readTerm_38 : decode cX3_readTerm 38 = .ok (.return_, 1) := dk_177 (dk_at dksX3_readTerm_1 14 rfl rfl)
abbrev cX3_readFactor : ByteArray := prog_10_method_83_code
def yX3_readFactor : MethodName := ⟨RX3, "readFactor", "()V"⟩
def dkwX3_readFactor_6 : List UInt8 := [5, 182, 1, 53, 167, 0, 16, 42, 6, 182, 1, 53, 167, 0, 8, 42, 4, 181, 0, 120, 177]
abbrev dktX3_readFactor_6 : List UInt8 := dkwX3_readFactor_6 ++ []
def dkwX3_readFactor_5 : List UInt8 := [42, 182, 1, 50, 167, 0, 40, 42, 3, 182, 1, 53, 167, 0, 32, 42, 4, 182, 1, 53, 167, 0, 24, 42]
abbrev dktX3_readFactor_5 : List UInt8 := dkwX3_readFactor_5 ++ dktX3_readFactor_6
def dkwX3_readFactor_4 : List UInt8 := [160, 0, 16, 42, 89, 180, 0, 114, 4, 96, 181, 0, 114, 167, 0, 55, 42, 4, 181, 0, 120, 167, 0, 47]
abbrev dktX3_readFactor_4 : List UInt8 := dkwX3_readFactor_4 ++ dktX3_readFactor_5
def dkwX3_readFactor_3 : List UInt8 := [167, 0, 91, 42, 89, 180, 0, 114, 4, 96, 181, 0, 114, 42, 182, 1, 47, 42, 182, 1, 35, 16, 41]
abbrev dktX3_readFactor_3 : List UInt8 := dkwX3_readFactor_3 ++ dktX3_readFactor_4
def dkwX3_readFactor_2 : List UInt8 := [42, 89, 180, 0, 114, 4, 96, 181, 0, 114, 42, 182, 1, 44, 42, 16, 33, 3, 3, 182, 1, 41]
abbrev dktX3_readFactor_2 : List UInt8 := dkwX3_readFactor_2 ++ dktX3_readFactor_3
def dkwX3_readFactor_1 : List UInt8 := [171, 0, 0, 0, 0, 0, 0, 176, 0, 0, 0, 7, 0, 0, 0, 33, 0, 0, 0, 68, 0, 0, 0, 35, 0, 0, 0, 137, 0, 0, 0, 40, 0, 0, 0, 93, 0, 0, 0, 104, 0, 0, 0, 152, 0, 0, 0, 108, 0, 0, 0, 144, 0, 0, 0, 110, 0, 0, 0, 168, 0, 0, 0, 119, 0, 0, 0, 160]
abbrev dktX3_readFactor_1 : List UInt8 := dkwX3_readFactor_1 ++ dktX3_readFactor_2
def dkwX3_readFactor_0 : List UInt8 := [42, 182, 1, 35]
abbrev dktX3_readFactor_0 : List UInt8 := dkwX3_readFactor_0 ++ dktX3_readFactor_1
theorem dksX3_readFactor_0 : cX3_readFactor.data.toList.drop 0 = dktX3_readFactor_0 := by decide +kernel
theorem dksX3_readFactor_1 : cX3_readFactor.data.toList.drop 4 = dktX3_readFactor_1 := dk_seg dksX3_readFactor_0 4 rfl rfl
theorem dksX3_readFactor_2 : cX3_readFactor.data.toList.drop 72 = dktX3_readFactor_2 := dk_seg dksX3_readFactor_1 68 rfl rfl
theorem dksX3_readFactor_3 : cX3_readFactor.data.toList.drop 94 = dktX3_readFactor_3 := dk_seg dksX3_readFactor_2 22 rfl rfl
theorem dksX3_readFactor_4 : cX3_readFactor.data.toList.drop 117 = dktX3_readFactor_4 := dk_seg dksX3_readFactor_3 23 rfl rfl
theorem dksX3_readFactor_5 : cX3_readFactor.data.toList.drop 141 = dktX3_readFactor_5 := dk_seg dksX3_readFactor_4 24 rfl rfl
theorem dksX3_readFactor_6 : cX3_readFactor.data.toList.drop 165 = dktX3_readFactor_6 := dk_seg dksX3_readFactor_5 24 rfl rfl
theorem dX3_readFactor_0 : decode cX3_readFactor 0 = .ok (.aload_n 0, 1) := dk_42 (dk_at dksX3_readFactor_0 0 rfl rfl)
theorem dX3_readFactor_1 : decode cX3_readFactor 1 = .ok (.invokevirtual 291, 3) := dk_182 1 35 (dk_at dksX3_readFactor_0 1 rfl rfl)
theorem dX3_readFactor_4 : decode cX3_readFactor 4 = .ok (.lookupswitch 176 #[(33, 68), (35, 137), (40, 93), (104, 152), (108, 144), (110, 168), (119, 160)], 68) := by decide +kernel
theorem dX3_readFactor_72 : decode cX3_readFactor 72 = .ok (.aload_n 0, 1) := dk_42 (dk_at dksX3_readFactor_2 0 rfl rfl)
theorem dX3_readFactor_73 : decode cX3_readFactor 73 = .ok (.dup, 1) := dk_89 (dk_at dksX3_readFactor_2 1 rfl rfl)
theorem dX3_readFactor_74 : decode cX3_readFactor 74 = .ok (.getfield 114, 3) := dk_180 0 114 (dk_at dksX3_readFactor_2 2 rfl rfl)
theorem dX3_readFactor_77 : decode cX3_readFactor 77 = .ok (.iconst 1, 1) := dk_4 (dk_at dksX3_readFactor_2 5 rfl rfl)
theorem dX3_readFactor_78 : decode cX3_readFactor 78 = .ok (.iadd, 1) := dk_96 (dk_at dksX3_readFactor_2 6 rfl rfl)
theorem dX3_readFactor_79 : decode cX3_readFactor 79 = .ok (.putfield 114, 3) := dk_181 0 114 (dk_at dksX3_readFactor_2 7 rfl rfl)
theorem dX3_readFactor_82 : decode cX3_readFactor 82 = .ok (.aload_n 0, 1) := dk_42 (dk_at dksX3_readFactor_2 10 rfl rfl)
theorem dX3_readFactor_83 : decode cX3_readFactor 83 = .ok (.invokevirtual 300, 3) := dk_182 1 44 (dk_at dksX3_readFactor_2 11 rfl rfl)
theorem dX3_readFactor_86 : decode cX3_readFactor 86 = .ok (.aload_n 0, 1) := dk_42 (dk_at dksX3_readFactor_2 14 rfl rfl)
theorem dX3_readFactor_87 : decode cX3_readFactor 87 = .ok (.bipush 33, 2) := dk_16 33 (dk_at dksX3_readFactor_2 15 rfl rfl)
theorem dX3_readFactor_89 : decode cX3_readFactor 89 = .ok (.iconst 0, 1) := dk_3 (dk_at dksX3_readFactor_2 17 rfl rfl)
theorem dX3_readFactor_90 : decode cX3_readFactor 90 = .ok (.iconst 0, 1) := dk_3 (dk_at dksX3_readFactor_2 18 rfl rfl)
theorem dX3_readFactor_91 : decode cX3_readFactor 91 = .ok (.invokevirtual 297, 3) := dk_182 1 41 (dk_at dksX3_readFactor_2 19 rfl rfl)
theorem dX3_readFactor_94 : decode cX3_readFactor 94 = .ok (.goto 91, 3) := dk_167 0 91 (dk_at dksX3_readFactor_3 0 rfl rfl)
theorem dX3_readFactor_97 : decode cX3_readFactor 97 = .ok (.aload_n 0, 1) := dk_42 (dk_at dksX3_readFactor_3 3 rfl rfl)
theorem dX3_readFactor_98 : decode cX3_readFactor 98 = .ok (.dup, 1) := dk_89 (dk_at dksX3_readFactor_3 4 rfl rfl)
theorem dX3_readFactor_99 : decode cX3_readFactor 99 = .ok (.getfield 114, 3) := dk_180 0 114 (dk_at dksX3_readFactor_3 5 rfl rfl)
theorem dX3_readFactor_102 : decode cX3_readFactor 102 = .ok (.iconst 1, 1) := dk_4 (dk_at dksX3_readFactor_3 8 rfl rfl)
theorem dX3_readFactor_103 : decode cX3_readFactor 103 = .ok (.iadd, 1) := dk_96 (dk_at dksX3_readFactor_3 9 rfl rfl)
theorem dX3_readFactor_104 : decode cX3_readFactor 104 = .ok (.putfield 114, 3) := dk_181 0 114 (dk_at dksX3_readFactor_3 10 rfl rfl)
theorem dX3_readFactor_107 : decode cX3_readFactor 107 = .ok (.aload_n 0, 1) := dk_42 (dk_at dksX3_readFactor_3 13 rfl rfl)
theorem dX3_readFactor_108 : decode cX3_readFactor 108 = .ok (.invokevirtual 303, 3) := dk_182 1 47 (dk_at dksX3_readFactor_3 14 rfl rfl)
theorem dX3_readFactor_111 : decode cX3_readFactor 111 = .ok (.aload_n 0, 1) := dk_42 (dk_at dksX3_readFactor_3 17 rfl rfl)
theorem dX3_readFactor_112 : decode cX3_readFactor 112 = .ok (.invokevirtual 291, 3) := dk_182 1 35 (dk_at dksX3_readFactor_3 18 rfl rfl)
theorem dX3_readFactor_115 : decode cX3_readFactor 115 = .ok (.bipush 41, 2) := dk_16 41 (dk_at dksX3_readFactor_3 21 rfl rfl)
theorem dX3_readFactor_117 : decode cX3_readFactor 117 = .ok (.if_icmp .ne 16, 3) := dk_160 0 16 (dk_at dksX3_readFactor_4 0 rfl rfl)
theorem dX3_readFactor_120 : decode cX3_readFactor 120 = .ok (.aload_n 0, 1) := dk_42 (dk_at dksX3_readFactor_4 3 rfl rfl)
theorem dX3_readFactor_121 : decode cX3_readFactor 121 = .ok (.dup, 1) := dk_89 (dk_at dksX3_readFactor_4 4 rfl rfl)
theorem dX3_readFactor_122 : decode cX3_readFactor 122 = .ok (.getfield 114, 3) := dk_180 0 114 (dk_at dksX3_readFactor_4 5 rfl rfl)
theorem dX3_readFactor_125 : decode cX3_readFactor 125 = .ok (.iconst 1, 1) := dk_4 (dk_at dksX3_readFactor_4 8 rfl rfl)
theorem dX3_readFactor_126 : decode cX3_readFactor 126 = .ok (.iadd, 1) := dk_96 (dk_at dksX3_readFactor_4 9 rfl rfl)
theorem dX3_readFactor_127 : decode cX3_readFactor 127 = .ok (.putfield 114, 3) := dk_181 0 114 (dk_at dksX3_readFactor_4 10 rfl rfl)
theorem dX3_readFactor_130 : decode cX3_readFactor 130 = .ok (.goto 55, 3) := dk_167 0 55 (dk_at dksX3_readFactor_4 13 rfl rfl)
theorem dX3_readFactor_133 : decode cX3_readFactor 133 = .ok (.aload_n 0, 1) := dk_42 (dk_at dksX3_readFactor_4 16 rfl rfl)
theorem dX3_readFactor_134 : decode cX3_readFactor 134 = .ok (.iconst 1, 1) := dk_4 (dk_at dksX3_readFactor_4 17 rfl rfl)
theorem dX3_readFactor_135 : decode cX3_readFactor 135 = .ok (.putfield 120, 3) := dk_181 0 120 (dk_at dksX3_readFactor_4 18 rfl rfl)
theorem dX3_readFactor_138 : decode cX3_readFactor 138 = .ok (.goto 47, 3) := dk_167 0 47 (dk_at dksX3_readFactor_4 21 rfl rfl)
theorem dX3_readFactor_141 : decode cX3_readFactor 141 = .ok (.aload_n 0, 1) := dk_42 (dk_at dksX3_readFactor_5 0 rfl rfl)
theorem dX3_readFactor_142 : decode cX3_readFactor 142 = .ok (.invokevirtual 306, 3) := dk_182 1 50 (dk_at dksX3_readFactor_5 1 rfl rfl)
theorem dX3_readFactor_145 : decode cX3_readFactor 145 = .ok (.goto 40, 3) := dk_167 0 40 (dk_at dksX3_readFactor_5 4 rfl rfl)
theorem dX3_readFactor_148 : decode cX3_readFactor 148 = .ok (.aload_n 0, 1) := dk_42 (dk_at dksX3_readFactor_5 7 rfl rfl)
theorem dX3_readFactor_149 : decode cX3_readFactor 149 = .ok (.iconst 0, 1) := dk_3 (dk_at dksX3_readFactor_5 8 rfl rfl)
theorem dX3_readFactor_150 : decode cX3_readFactor 150 = .ok (.invokevirtual 309, 3) := dk_182 1 53 (dk_at dksX3_readFactor_5 9 rfl rfl)
theorem dX3_readFactor_153 : decode cX3_readFactor 153 = .ok (.goto 32, 3) := dk_167 0 32 (dk_at dksX3_readFactor_5 12 rfl rfl)
theorem dX3_readFactor_156 : decode cX3_readFactor 156 = .ok (.aload_n 0, 1) := dk_42 (dk_at dksX3_readFactor_5 15 rfl rfl)
theorem dX3_readFactor_157 : decode cX3_readFactor 157 = .ok (.iconst 1, 1) := dk_4 (dk_at dksX3_readFactor_5 16 rfl rfl)
theorem dX3_readFactor_158 : decode cX3_readFactor 158 = .ok (.invokevirtual 309, 3) := dk_182 1 53 (dk_at dksX3_readFactor_5 17 rfl rfl)
theorem dX3_readFactor_161 : decode cX3_readFactor 161 = .ok (.goto 24, 3) := dk_167 0 24 (dk_at dksX3_readFactor_5 20 rfl rfl)
theorem dX3_readFactor_164 : decode cX3_readFactor 164 = .ok (.aload_n 0, 1) := dk_42 (dk_at dksX3_readFactor_5 23 rfl rfl)
theorem dX3_readFactor_165 : decode cX3_readFactor 165 = .ok (.iconst 2, 1) := dk_5 (dk_at dksX3_readFactor_6 0 rfl rfl)
theorem dX3_readFactor_166 : decode cX3_readFactor 166 = .ok (.invokevirtual 309, 3) := dk_182 1 53 (dk_at dksX3_readFactor_6 1 rfl rfl)
theorem dX3_readFactor_169 : decode cX3_readFactor 169 = .ok (.goto 16, 3) := dk_167 0 16 (dk_at dksX3_readFactor_6 4 rfl rfl)
theorem dX3_readFactor_172 : decode cX3_readFactor 172 = .ok (.aload_n 0, 1) := dk_42 (dk_at dksX3_readFactor_6 7 rfl rfl)
theorem dX3_readFactor_173 : decode cX3_readFactor 173 = .ok (.iconst 3, 1) := dk_6 (dk_at dksX3_readFactor_6 8 rfl rfl)
theorem dX3_readFactor_174 : decode cX3_readFactor 174 = .ok (.invokevirtual 309, 3) := dk_182 1 53 (dk_at dksX3_readFactor_6 9 rfl rfl)
theorem dX3_readFactor_177 : decode cX3_readFactor 177 = .ok (.goto 8, 3) := dk_167 0 8 (dk_at dksX3_readFactor_6 12 rfl rfl)
theorem dX3_readFactor_180 : decode cX3_readFactor 180 = .ok (.aload_n 0, 1) := dk_42 (dk_at dksX3_readFactor_6 15 rfl rfl)
theorem dX3_readFactor_181 : decode cX3_readFactor 181 = .ok (.iconst 1, 1) := dk_4 (dk_at dksX3_readFactor_6 16 rfl rfl)
theorem dX3_readFactor_182 : decode cX3_readFactor 182 = .ok (.putfield 120, 3) := dk_181 0 120 (dk_at dksX3_readFactor_6 17 rfl rfl)
theorem dX3_readFactor_185 : decode cX3_readFactor 185 = .ok (.return_, 1) := dk_177 (dk_at dksX3_readFactor_6 20 rfl rfl)
abbrev cX3_sign : ByteArray := prog_10_method_78_code
def yX3_sign : MethodName := ⟨RX3, "sign", "()I"⟩
def dkwX3_sign_1 : List UInt8 := [180, 0, 114, 46, 167, 0, 4, 2, 172]
abbrev dktX3_sign_1 : List UInt8 := dkwX3_sign_1 ++ []
def dkwX3_sign_0 : List UInt8 := [42, 180, 0, 120, 154, 0, 26, 42, 180, 0, 114, 42, 180, 0, 111, 162, 0, 15, 42, 180, 0, 108, 42]
abbrev dktX3_sign_0 : List UInt8 := dkwX3_sign_0 ++ dktX3_sign_1
theorem dksX3_sign_0 : cX3_sign.data.toList.drop 0 = dktX3_sign_0 := by decide +kernel
theorem dksX3_sign_1 : cX3_sign.data.toList.drop 23 = dktX3_sign_1 := dk_seg dksX3_sign_0 23 rfl rfl
theorem dX3_sign_0 : decode cX3_sign 0 = .ok (.aload_n 0, 1) := dk_42 (dk_at dksX3_sign_0 0 rfl rfl)
theorem dX3_sign_1 : decode cX3_sign 1 = .ok (.getfield 120, 3) := dk_180 0 120 (dk_at dksX3_sign_0 1 rfl rfl)
theorem dX3_sign_4 : decode cX3_sign 4 = .ok (.ifCond .ne 26, 3) := dk_154 0 26 (dk_at dksX3_sign_0 4 rfl rfl)
theorem dX3_sign_7 : decode cX3_sign 7 = .ok (.aload_n 0, 1) := dk_42 (dk_at dksX3_sign_0 7 rfl rfl)
theorem dX3_sign_8 : decode cX3_sign 8 = .ok (.getfield 114, 3) := dk_180 0 114 (dk_at dksX3_sign_0 8 rfl rfl)
theorem dX3_sign_11 : decode cX3_sign 11 = .ok (.aload_n 0, 1) := dk_42 (dk_at dksX3_sign_0 11 rfl rfl)
theorem dX3_sign_12 : decode cX3_sign 12 = .ok (.getfield 111, 3) := dk_180 0 111 (dk_at dksX3_sign_0 12 rfl rfl)
theorem dX3_sign_15 : decode cX3_sign 15 = .ok (.if_icmp .ge 15, 3) := dk_162 0 15 (dk_at dksX3_sign_0 15 rfl rfl)
theorem dX3_sign_18 : decode cX3_sign 18 = .ok (.aload_n 0, 1) := dk_42 (dk_at dksX3_sign_0 18 rfl rfl)
theorem dX3_sign_19 : decode cX3_sign 19 = .ok (.getfield 108, 3) := dk_180 0 108 (dk_at dksX3_sign_0 19 rfl rfl)
theorem dX3_sign_22 : decode cX3_sign 22 = .ok (.aload_n 0, 1) := dk_42 (dk_at dksX3_sign_0 22 rfl rfl)
theorem dX3_sign_23 : decode cX3_sign 23 = .ok (.getfield 114, 3) := dk_180 0 114 (dk_at dksX3_sign_1 0 rfl rfl)
theorem dX3_sign_26 : decode cX3_sign 26 = .ok (.iaload, 1) := dk_46 (dk_at dksX3_sign_1 3 rfl rfl)
theorem dX3_sign_27 : decode cX3_sign 27 = .ok (.goto 4, 3) := dk_167 0 4 (dk_at dksX3_sign_1 4 rfl rfl)
theorem dX3_sign_30 : decode cX3_sign 30 = .ok (.iconst (-1), 1) := dk_2 (dk_at dksX3_sign_1 7 rfl rfl)
theorem dX3_sign_31 : decode cX3_sign 31 = .ok (.ireturn, 1) := dk_172 (dk_at dksX3_sign_1 8 rfl rfl)
abbrev cX3_part : ByteArray := prog_10_method_80_code
def yX3_part : MethodName := ⟨RX3, "part", "(III)V"⟩
def dkwX3_part_2 : List UInt8 := [21, 4, 29, 79, 42, 180, 0, 93, 42, 180, 0, 78, 92, 46, 4, 96, 79, 177]
abbrev dktX3_part_2 : List UInt8 := dkwX3_part_2 ++ []
def dkwX3_part_1 : List UInt8 := [96, 54, 4, 42, 180, 0, 96, 21, 4, 27, 79, 42, 180, 0, 99, 21, 4, 28, 79, 42, 180, 0, 102]
abbrev dktX3_part_1 : List UInt8 := dkwX3_part_1 ++ dktX3_part_2
def dkwX3_part_0 : List UInt8 := [42, 180, 0, 120, 153, 0, 4, 177, 42, 180, 0, 78, 16, 60, 104, 42, 180, 0, 93, 42, 180, 0, 78, 46]
abbrev dktX3_part_0 : List UInt8 := dkwX3_part_0 ++ dktX3_part_1
theorem dksX3_part_0 : cX3_part.data.toList.drop 0 = dktX3_part_0 := by decide +kernel
theorem dksX3_part_1 : cX3_part.data.toList.drop 24 = dktX3_part_1 := dk_seg dksX3_part_0 24 rfl rfl
theorem dksX3_part_2 : cX3_part.data.toList.drop 47 = dktX3_part_2 := dk_seg dksX3_part_1 23 rfl rfl
theorem dX3_part_0 : decode cX3_part 0 = .ok (.aload_n 0, 1) := dk_42 (dk_at dksX3_part_0 0 rfl rfl)
theorem dX3_part_1 : decode cX3_part 1 = .ok (.getfield 120, 3) := dk_180 0 120 (dk_at dksX3_part_0 1 rfl rfl)
theorem dX3_part_4 : decode cX3_part 4 = .ok (.ifCond .eq 4, 3) := dk_153 0 4 (dk_at dksX3_part_0 4 rfl rfl)
theorem dX3_part_7 : decode cX3_part 7 = .ok (.return_, 1) := dk_177 (dk_at dksX3_part_0 7 rfl rfl)
theorem dX3_part_8 : decode cX3_part 8 = .ok (.aload_n 0, 1) := dk_42 (dk_at dksX3_part_0 8 rfl rfl)
theorem dX3_part_9 : decode cX3_part 9 = .ok (.getfield 78, 3) := dk_180 0 78 (dk_at dksX3_part_0 9 rfl rfl)
theorem dX3_part_12 : decode cX3_part 12 = .ok (.bipush 60, 2) := dk_16 60 (dk_at dksX3_part_0 12 rfl rfl)
theorem dX3_part_14 : decode cX3_part 14 = .ok (.imul, 1) := dk_104 (dk_at dksX3_part_0 14 rfl rfl)
theorem dX3_part_15 : decode cX3_part 15 = .ok (.aload_n 0, 1) := dk_42 (dk_at dksX3_part_0 15 rfl rfl)
theorem dX3_part_16 : decode cX3_part 16 = .ok (.getfield 93, 3) := dk_180 0 93 (dk_at dksX3_part_0 16 rfl rfl)
theorem dX3_part_19 : decode cX3_part 19 = .ok (.aload_n 0, 1) := dk_42 (dk_at dksX3_part_0 19 rfl rfl)
theorem dX3_part_20 : decode cX3_part 20 = .ok (.getfield 78, 3) := dk_180 0 78 (dk_at dksX3_part_0 20 rfl rfl)
theorem dX3_part_23 : decode cX3_part 23 = .ok (.iaload, 1) := dk_46 (dk_at dksX3_part_0 23 rfl rfl)
theorem dX3_part_24 : decode cX3_part 24 = .ok (.iadd, 1) := dk_96 (dk_at dksX3_part_1 0 rfl rfl)
theorem dX3_part_25 : decode cX3_part 25 = .ok (.istore 4, 2) := dk_54 4 (dk_at dksX3_part_1 1 rfl rfl)
theorem dX3_part_27 : decode cX3_part 27 = .ok (.aload_n 0, 1) := dk_42 (dk_at dksX3_part_1 3 rfl rfl)
theorem dX3_part_28 : decode cX3_part 28 = .ok (.getfield 96, 3) := dk_180 0 96 (dk_at dksX3_part_1 4 rfl rfl)
theorem dX3_part_31 : decode cX3_part 31 = .ok (.iload 4, 2) := dk_21 4 (dk_at dksX3_part_1 7 rfl rfl)
theorem dX3_part_33 : decode cX3_part 33 = .ok (.iload_n 1, 1) := dk_27 (dk_at dksX3_part_1 9 rfl rfl)
theorem dX3_part_34 : decode cX3_part 34 = .ok (.iastore, 1) := dk_79 (dk_at dksX3_part_1 10 rfl rfl)
theorem dX3_part_35 : decode cX3_part 35 = .ok (.aload_n 0, 1) := dk_42 (dk_at dksX3_part_1 11 rfl rfl)
theorem dX3_part_36 : decode cX3_part 36 = .ok (.getfield 99, 3) := dk_180 0 99 (dk_at dksX3_part_1 12 rfl rfl)
theorem dX3_part_39 : decode cX3_part 39 = .ok (.iload 4, 2) := dk_21 4 (dk_at dksX3_part_1 15 rfl rfl)
theorem dX3_part_41 : decode cX3_part 41 = .ok (.iload_n 2, 1) := dk_28 (dk_at dksX3_part_1 17 rfl rfl)
theorem dX3_part_42 : decode cX3_part 42 = .ok (.iastore, 1) := dk_79 (dk_at dksX3_part_1 18 rfl rfl)
theorem dX3_part_43 : decode cX3_part 43 = .ok (.aload_n 0, 1) := dk_42 (dk_at dksX3_part_1 19 rfl rfl)
theorem dX3_part_44 : decode cX3_part 44 = .ok (.getfield 102, 3) := dk_180 0 102 (dk_at dksX3_part_1 20 rfl rfl)
theorem dX3_part_47 : decode cX3_part 47 = .ok (.iload 4, 2) := dk_21 4 (dk_at dksX3_part_2 0 rfl rfl)
theorem dX3_part_49 : decode cX3_part 49 = .ok (.iload_n 3, 1) := dk_29 (dk_at dksX3_part_2 2 rfl rfl)
theorem dX3_part_50 : decode cX3_part 50 = .ok (.iastore, 1) := dk_79 (dk_at dksX3_part_2 3 rfl rfl)
theorem dX3_part_51 : decode cX3_part 51 = .ok (.aload_n 0, 1) := dk_42 (dk_at dksX3_part_2 4 rfl rfl)
theorem dX3_part_52 : decode cX3_part 52 = .ok (.getfield 93, 3) := dk_180 0 93 (dk_at dksX3_part_2 5 rfl rfl)
theorem dX3_part_55 : decode cX3_part 55 = .ok (.aload_n 0, 1) := dk_42 (dk_at dksX3_part_2 8 rfl rfl)
theorem dX3_part_56 : decode cX3_part 56 = .ok (.getfield 78, 3) := dk_180 0 78 (dk_at dksX3_part_2 9 rfl rfl)
theorem dX3_part_59 : decode cX3_part 59 = .ok (.dup2, 1) := dk_92 (dk_at dksX3_part_2 12 rfl rfl)
theorem dX3_part_60 : decode cX3_part 60 = .ok (.iaload, 1) := dk_46 (dk_at dksX3_part_2 13 rfl rfl)
theorem dX3_part_61 : decode cX3_part 61 = .ok (.iconst 1, 1) := dk_4 (dk_at dksX3_part_2 14 rfl rfl)
theorem dX3_part_62 : decode cX3_part 62 = .ok (.iadd, 1) := dk_96 (dk_at dksX3_part_2 15 rfl rfl)
theorem dX3_part_63 : decode cX3_part 63 = .ok (.iastore, 1) := dk_79 (dk_at dksX3_part_2 16 rfl rfl)
theorem dX3_part_64 : decode cX3_part 64 = .ok (.return_, 1) := dk_177 (dk_at dksX3_part_2 17 rfl rfl)
abbrev cX3_readReference : ByteArray := prog_10_method_84_code
def yX3_readReference : MethodName := ⟨RX3, "readReference", "()V"⟩
def dkwX3_readReference_4 : List UInt8 := [182, 1, 41, 42, 89, 180, 0, 114, 4, 96, 181, 0, 114, 177]
abbrev dktX3_readReference_4 : List UInt8 := dkwX3_readReference_4 ++ []
def dkwX3_readReference_3 : List UInt8 := [3, 181, 0, 120, 42, 180, 0, 120, 153, 0, 4, 177, 42, 16, 35, 3, 42, 182, 1, 35, 16, 48, 100]
abbrev dktX3_readReference_3 : List UInt8 := dkwX3_readReference_3 ++ dktX3_readReference_4
def dkwX3_readReference_2 : List UInt8 := [182, 1, 56, 153, 0, 17, 42, 182, 1, 35, 16, 48, 100, 42, 180, 0, 78, 161, 0, 7, 4, 167, 0, 4]
abbrev dktX3_readReference_2 : List UInt8 := dkwX3_readReference_2 ++ dktX3_readReference_3
def dkwX3_readReference_1 : List UInt8 := [177, 42, 89, 180, 0, 117, 4, 96, 181, 0, 117, 42, 89, 180, 0, 114, 4, 96, 181, 0, 114, 42, 42]
abbrev dktX3_readReference_1 : List UInt8 := dkwX3_readReference_1 ++ dktX3_readReference_2
def dkwX3_readReference_0 : List UInt8 := [42, 42, 180, 0, 117, 5, 160, 0, 7, 4, 167, 0, 4, 3, 181, 0, 120, 42, 180, 0, 120, 153, 0, 4]
abbrev dktX3_readReference_0 : List UInt8 := dkwX3_readReference_0 ++ dktX3_readReference_1
theorem dksX3_readReference_0 : cX3_readReference.data.toList.drop 0 = dktX3_readReference_0 := by decide +kernel
theorem dksX3_readReference_1 : cX3_readReference.data.toList.drop 24 = dktX3_readReference_1 := dk_seg dksX3_readReference_0 24 rfl rfl
theorem dksX3_readReference_2 : cX3_readReference.data.toList.drop 47 = dktX3_readReference_2 := dk_seg dksX3_readReference_1 23 rfl rfl
theorem dksX3_readReference_3 : cX3_readReference.data.toList.drop 71 = dktX3_readReference_3 := dk_seg dksX3_readReference_2 24 rfl rfl
theorem dksX3_readReference_4 : cX3_readReference.data.toList.drop 94 = dktX3_readReference_4 := dk_seg dksX3_readReference_3 23 rfl rfl
theorem dX3_readReference_0 : decode cX3_readReference 0 = .ok (.aload_n 0, 1) := dk_42 (dk_at dksX3_readReference_0 0 rfl rfl)
theorem dX3_readReference_1 : decode cX3_readReference 1 = .ok (.aload_n 0, 1) := dk_42 (dk_at dksX3_readReference_0 1 rfl rfl)
theorem dX3_readReference_2 : decode cX3_readReference 2 = .ok (.getfield 117, 3) := dk_180 0 117 (dk_at dksX3_readReference_0 2 rfl rfl)
theorem dX3_readReference_5 : decode cX3_readReference 5 = .ok (.iconst 2, 1) := dk_5 (dk_at dksX3_readReference_0 5 rfl rfl)
theorem dX3_readReference_6 : decode cX3_readReference 6 = .ok (.if_icmp .ne 7, 3) := dk_160 0 7 (dk_at dksX3_readReference_0 6 rfl rfl)
theorem dX3_readReference_9 : decode cX3_readReference 9 = .ok (.iconst 1, 1) := dk_4 (dk_at dksX3_readReference_0 9 rfl rfl)
theorem dX3_readReference_10 : decode cX3_readReference 10 = .ok (.goto 4, 3) := dk_167 0 4 (dk_at dksX3_readReference_0 10 rfl rfl)
theorem dX3_readReference_13 : decode cX3_readReference 13 = .ok (.iconst 0, 1) := dk_3 (dk_at dksX3_readReference_0 13 rfl rfl)
theorem dX3_readReference_14 : decode cX3_readReference 14 = .ok (.putfield 120, 3) := dk_181 0 120 (dk_at dksX3_readReference_0 14 rfl rfl)
theorem dX3_readReference_17 : decode cX3_readReference 17 = .ok (.aload_n 0, 1) := dk_42 (dk_at dksX3_readReference_0 17 rfl rfl)
theorem dX3_readReference_18 : decode cX3_readReference 18 = .ok (.getfield 120, 3) := dk_180 0 120 (dk_at dksX3_readReference_0 18 rfl rfl)
theorem dX3_readReference_21 : decode cX3_readReference 21 = .ok (.ifCond .eq 4, 3) := dk_153 0 4 (dk_at dksX3_readReference_0 21 rfl rfl)
theorem dX3_readReference_24 : decode cX3_readReference 24 = .ok (.return_, 1) := dk_177 (dk_at dksX3_readReference_1 0 rfl rfl)
theorem dX3_readReference_25 : decode cX3_readReference 25 = .ok (.aload_n 0, 1) := dk_42 (dk_at dksX3_readReference_1 1 rfl rfl)
theorem dX3_readReference_26 : decode cX3_readReference 26 = .ok (.dup, 1) := dk_89 (dk_at dksX3_readReference_1 2 rfl rfl)
theorem dX3_readReference_27 : decode cX3_readReference 27 = .ok (.getfield 117, 3) := dk_180 0 117 (dk_at dksX3_readReference_1 3 rfl rfl)
theorem dX3_readReference_30 : decode cX3_readReference 30 = .ok (.iconst 1, 1) := dk_4 (dk_at dksX3_readReference_1 6 rfl rfl)
theorem dX3_readReference_31 : decode cX3_readReference 31 = .ok (.iadd, 1) := dk_96 (dk_at dksX3_readReference_1 7 rfl rfl)
theorem dX3_readReference_32 : decode cX3_readReference 32 = .ok (.putfield 117, 3) := dk_181 0 117 (dk_at dksX3_readReference_1 8 rfl rfl)
theorem dX3_readReference_35 : decode cX3_readReference 35 = .ok (.aload_n 0, 1) := dk_42 (dk_at dksX3_readReference_1 11 rfl rfl)
theorem dX3_readReference_36 : decode cX3_readReference 36 = .ok (.dup, 1) := dk_89 (dk_at dksX3_readReference_1 12 rfl rfl)
theorem dX3_readReference_37 : decode cX3_readReference 37 = .ok (.getfield 114, 3) := dk_180 0 114 (dk_at dksX3_readReference_1 13 rfl rfl)
theorem dX3_readReference_40 : decode cX3_readReference 40 = .ok (.iconst 1, 1) := dk_4 (dk_at dksX3_readReference_1 16 rfl rfl)
theorem dX3_readReference_41 : decode cX3_readReference 41 = .ok (.iadd, 1) := dk_96 (dk_at dksX3_readReference_1 17 rfl rfl)
theorem dX3_readReference_42 : decode cX3_readReference 42 = .ok (.putfield 114, 3) := dk_181 0 114 (dk_at dksX3_readReference_1 18 rfl rfl)
theorem dX3_readReference_45 : decode cX3_readReference 45 = .ok (.aload_n 0, 1) := dk_42 (dk_at dksX3_readReference_1 21 rfl rfl)
theorem dX3_readReference_46 : decode cX3_readReference 46 = .ok (.aload_n 0, 1) := dk_42 (dk_at dksX3_readReference_1 22 rfl rfl)
theorem dX3_readReference_47 : decode cX3_readReference 47 = .ok (.invokevirtual 312, 3) := dk_182 1 56 (dk_at dksX3_readReference_2 0 rfl rfl)
theorem dX3_readReference_50 : decode cX3_readReference 50 = .ok (.ifCond .eq 17, 3) := dk_153 0 17 (dk_at dksX3_readReference_2 3 rfl rfl)
theorem dX3_readReference_53 : decode cX3_readReference 53 = .ok (.aload_n 0, 1) := dk_42 (dk_at dksX3_readReference_2 6 rfl rfl)
theorem dX3_readReference_54 : decode cX3_readReference 54 = .ok (.invokevirtual 291, 3) := dk_182 1 35 (dk_at dksX3_readReference_2 7 rfl rfl)
theorem dX3_readReference_57 : decode cX3_readReference 57 = .ok (.bipush 48, 2) := dk_16 48 (dk_at dksX3_readReference_2 10 rfl rfl)
theorem dX3_readReference_59 : decode cX3_readReference 59 = .ok (.isub, 1) := dk_100 (dk_at dksX3_readReference_2 12 rfl rfl)
theorem dX3_readReference_60 : decode cX3_readReference 60 = .ok (.aload_n 0, 1) := dk_42 (dk_at dksX3_readReference_2 13 rfl rfl)
theorem dX3_readReference_61 : decode cX3_readReference 61 = .ok (.getfield 78, 3) := dk_180 0 78 (dk_at dksX3_readReference_2 14 rfl rfl)
theorem dX3_readReference_64 : decode cX3_readReference 64 = .ok (.if_icmp .lt 7, 3) := dk_161 0 7 (dk_at dksX3_readReference_2 17 rfl rfl)
theorem dX3_readReference_67 : decode cX3_readReference 67 = .ok (.iconst 1, 1) := dk_4 (dk_at dksX3_readReference_2 20 rfl rfl)
theorem dX3_readReference_68 : decode cX3_readReference 68 = .ok (.goto 4, 3) := dk_167 0 4 (dk_at dksX3_readReference_2 21 rfl rfl)
theorem dX3_readReference_71 : decode cX3_readReference 71 = .ok (.iconst 0, 1) := dk_3 (dk_at dksX3_readReference_3 0 rfl rfl)
theorem dX3_readReference_72 : decode cX3_readReference 72 = .ok (.putfield 120, 3) := dk_181 0 120 (dk_at dksX3_readReference_3 1 rfl rfl)
theorem dX3_readReference_75 : decode cX3_readReference 75 = .ok (.aload_n 0, 1) := dk_42 (dk_at dksX3_readReference_3 4 rfl rfl)
theorem dX3_readReference_76 : decode cX3_readReference 76 = .ok (.getfield 120, 3) := dk_180 0 120 (dk_at dksX3_readReference_3 5 rfl rfl)
theorem dX3_readReference_79 : decode cX3_readReference 79 = .ok (.ifCond .eq 4, 3) := dk_153 0 4 (dk_at dksX3_readReference_3 8 rfl rfl)
theorem dX3_readReference_82 : decode cX3_readReference 82 = .ok (.return_, 1) := dk_177 (dk_at dksX3_readReference_3 11 rfl rfl)
theorem dX3_readReference_83 : decode cX3_readReference 83 = .ok (.aload_n 0, 1) := dk_42 (dk_at dksX3_readReference_3 12 rfl rfl)
theorem dX3_readReference_84 : decode cX3_readReference 84 = .ok (.bipush 35, 2) := dk_16 35 (dk_at dksX3_readReference_3 13 rfl rfl)
theorem dX3_readReference_86 : decode cX3_readReference 86 = .ok (.iconst 0, 1) := dk_3 (dk_at dksX3_readReference_3 15 rfl rfl)
theorem dX3_readReference_87 : decode cX3_readReference 87 = .ok (.aload_n 0, 1) := dk_42 (dk_at dksX3_readReference_3 16 rfl rfl)
theorem dX3_readReference_88 : decode cX3_readReference 88 = .ok (.invokevirtual 291, 3) := dk_182 1 35 (dk_at dksX3_readReference_3 17 rfl rfl)
theorem dX3_readReference_91 : decode cX3_readReference 91 = .ok (.bipush 48, 2) := dk_16 48 (dk_at dksX3_readReference_3 20 rfl rfl)
theorem dX3_readReference_93 : decode cX3_readReference 93 = .ok (.isub, 1) := dk_100 (dk_at dksX3_readReference_3 22 rfl rfl)
theorem dX3_readReference_94 : decode cX3_readReference 94 = .ok (.invokevirtual 297, 3) := dk_182 1 41 (dk_at dksX3_readReference_4 0 rfl rfl)
theorem dX3_readReference_97 : decode cX3_readReference 97 = .ok (.aload_n 0, 1) := dk_42 (dk_at dksX3_readReference_4 3 rfl rfl)
theorem dX3_readReference_98 : decode cX3_readReference 98 = .ok (.dup, 1) := dk_89 (dk_at dksX3_readReference_4 4 rfl rfl)
theorem dX3_readReference_99 : decode cX3_readReference 99 = .ok (.getfield 114, 3) := dk_180 0 114 (dk_at dksX3_readReference_4 5 rfl rfl)
theorem dX3_readReference_102 : decode cX3_readReference 102 = .ok (.iconst 1, 1) := dk_4 (dk_at dksX3_readReference_4 8 rfl rfl)
theorem dX3_readReference_103 : decode cX3_readReference 103 = .ok (.iadd, 1) := dk_96 (dk_at dksX3_readReference_4 9 rfl rfl)
theorem dX3_readReference_104 : decode cX3_readReference 104 = .ok (.putfield 114, 3) := dk_181 0 114 (dk_at dksX3_readReference_4 10 rfl rfl)
theorem dX3_readReference_107 : decode cX3_readReference 107 = .ok (.return_, 1) := dk_177 (dk_at dksX3_readReference_4 13 rfl rfl)
abbrev cX3_isDigit : ByteArray := prog_10_method_79_code
def yX3_isDigit : MethodName := ⟨RX3, "isDigit", "()Z"⟩
def dkwX3_isDigit_0 : List UInt8 := [42, 182, 1, 35, 16, 48, 16, 57, 184, 0, 163, 172]
abbrev dktX3_isDigit_0 : List UInt8 := dkwX3_isDigit_0 ++ []
theorem dksX3_isDigit_0 : cX3_isDigit.data.toList.drop 0 = dktX3_isDigit_0 := by decide +kernel
theorem dX3_isDigit_0 : decode cX3_isDigit 0 = .ok (.aload_n 0, 1) := dk_42 (dk_at dksX3_isDigit_0 0 rfl rfl)
theorem dX3_isDigit_1 : decode cX3_isDigit 1 = .ok (.invokevirtual 291, 3) := dk_182 1 35 (dk_at dksX3_isDigit_0 1 rfl rfl)
theorem dX3_isDigit_4 : decode cX3_isDigit 4 = .ok (.bipush 48, 2) := dk_16 48 (dk_at dksX3_isDigit_0 4 rfl rfl)
theorem dX3_isDigit_6 : decode cX3_isDigit 6 = .ok (.bipush 57, 2) := dk_16 57 (dk_at dksX3_isDigit_0 6 rfl rfl)
theorem dX3_isDigit_8 : decode cX3_isDigit 8 = .ok (.invokestatic 163, 3) := dk_184 0 163 (dk_at dksX3_isDigit_0 8 rfl rfl)
theorem dX3_isDigit_11 : decode cX3_isDigit 11 = .ok (.ireturn, 1) := dk_172 (dk_at dksX3_isDigit_0 11 rfl rfl)
abbrev cX3_readComparison : ByteArray := prog_10_method_85_code
def yX3_readComparison : MethodName := ⟨RX3, "readComparison", "(I)V"⟩
def dkwX3_readComparison_7 : List UInt8 := [167, 0, 5, 21, 4, 182, 1, 41, 177]
abbrev dktX3_readComparison_7 : List UInt8 := dkwX3_readComparison_7 ++ []
def dkwX3_readComparison_6 : List UInt8 := [180, 0, 114, 4, 96, 181, 0, 114, 132, 5, 1, 167, 255, 215, 42, 27, 28, 29, 153, 0, 9, 21, 4, 116]
abbrev dktX3_readComparison_6 : List UInt8 := dkwX3_readComparison_6 ++ dktX3_readComparison_7
def dkwX3_readComparison_5 : List UInt8 := [182, 1, 56, 153, 0, 34, 16, 10, 21, 4, 104, 42, 182, 1, 35, 96, 16, 48, 100, 54, 4, 42, 89]
abbrev dktX3_readComparison_5 : List UInt8 := dkwX3_readComparison_5 ++ dktX3_readComparison_6
def dkwX3_readComparison_4 : List UInt8 := [154, 0, 7, 4, 167, 0, 4, 3, 181, 0, 120, 3, 54, 4, 3, 54, 5, 21, 5, 7, 162, 0, 41, 42]
abbrev dktX3_readComparison_4 : List UInt8 := dkwX3_readComparison_4 ++ dktX3_readComparison_5
def dkwX3_readComparison_3 : List UInt8 := [167, 0, 4, 3, 62, 29, 153, 0, 13, 42, 89, 180, 0, 114, 4, 96, 181, 0, 114, 42, 42, 182, 1, 56]
abbrev dktX3_readComparison_3 : List UInt8 := dkwX3_readComparison_3 ++ dktX3_readComparison_4
def dkwX3_readComparison_2 : List UInt8 := [153, 0, 4, 177, 42, 89, 180, 0, 114, 4, 96, 181, 0, 114, 42, 182, 1, 35, 16, 45, 160, 0, 7, 4]
abbrev dktX3_readComparison_2 : List UInt8 := dkwX3_readComparison_2 ++ dktX3_readComparison_3
def dkwX3_readComparison_1 : List UInt8 := [16, 61, 159, 0, 13, 28, 16, 62, 159, 0, 7, 4, 167, 0, 4, 3, 181, 0, 120, 42, 180, 0, 120]
abbrev dktX3_readComparison_1 : List UInt8 := dkwX3_readComparison_1 ++ dktX3_readComparison_2
def dkwX3_readComparison_0 : List UInt8 := [42, 89, 180, 0, 114, 4, 96, 181, 0, 114, 42, 182, 1, 35, 61, 42, 28, 16, 60, 159, 0, 19, 28]
abbrev dktX3_readComparison_0 : List UInt8 := dkwX3_readComparison_0 ++ dktX3_readComparison_1
theorem dksX3_readComparison_0 : cX3_readComparison.data.toList.drop 0 = dktX3_readComparison_0 := by decide +kernel
theorem dksX3_readComparison_1 : cX3_readComparison.data.toList.drop 23 = dktX3_readComparison_1 := dk_seg dksX3_readComparison_0 23 rfl rfl
theorem dksX3_readComparison_2 : cX3_readComparison.data.toList.drop 46 = dktX3_readComparison_2 := dk_seg dksX3_readComparison_1 23 rfl rfl
theorem dksX3_readComparison_3 : cX3_readComparison.data.toList.drop 70 = dktX3_readComparison_3 := dk_seg dksX3_readComparison_2 24 rfl rfl
theorem dksX3_readComparison_4 : cX3_readComparison.data.toList.drop 94 = dktX3_readComparison_4 := dk_seg dksX3_readComparison_3 24 rfl rfl
theorem dksX3_readComparison_5 : cX3_readComparison.data.toList.drop 118 = dktX3_readComparison_5 := dk_seg dksX3_readComparison_4 24 rfl rfl
theorem dksX3_readComparison_6 : cX3_readComparison.data.toList.drop 141 = dktX3_readComparison_6 := dk_seg dksX3_readComparison_5 23 rfl rfl
theorem dksX3_readComparison_7 : cX3_readComparison.data.toList.drop 165 = dktX3_readComparison_7 := dk_seg dksX3_readComparison_6 24 rfl rfl
theorem dX3_readComparison_0 : decode cX3_readComparison 0 = .ok (.aload_n 0, 1) := dk_42 (dk_at dksX3_readComparison_0 0 rfl rfl)
theorem dX3_readComparison_1 : decode cX3_readComparison 1 = .ok (.dup, 1) := dk_89 (dk_at dksX3_readComparison_0 1 rfl rfl)
theorem dX3_readComparison_2 : decode cX3_readComparison 2 = .ok (.getfield 114, 3) := dk_180 0 114 (dk_at dksX3_readComparison_0 2 rfl rfl)
theorem dX3_readComparison_5 : decode cX3_readComparison 5 = .ok (.iconst 1, 1) := dk_4 (dk_at dksX3_readComparison_0 5 rfl rfl)
theorem dX3_readComparison_6 : decode cX3_readComparison 6 = .ok (.iadd, 1) := dk_96 (dk_at dksX3_readComparison_0 6 rfl rfl)
theorem dX3_readComparison_7 : decode cX3_readComparison 7 = .ok (.putfield 114, 3) := dk_181 0 114 (dk_at dksX3_readComparison_0 7 rfl rfl)
theorem dX3_readComparison_10 : decode cX3_readComparison 10 = .ok (.aload_n 0, 1) := dk_42 (dk_at dksX3_readComparison_0 10 rfl rfl)
theorem dX3_readComparison_11 : decode cX3_readComparison 11 = .ok (.invokevirtual 291, 3) := dk_182 1 35 (dk_at dksX3_readComparison_0 11 rfl rfl)
theorem dX3_readComparison_14 : decode cX3_readComparison 14 = .ok (.istore_n 2, 1) := dk_61 (dk_at dksX3_readComparison_0 14 rfl rfl)
theorem dX3_readComparison_15 : decode cX3_readComparison 15 = .ok (.aload_n 0, 1) := dk_42 (dk_at dksX3_readComparison_0 15 rfl rfl)
theorem dX3_readComparison_16 : decode cX3_readComparison 16 = .ok (.iload_n 2, 1) := dk_28 (dk_at dksX3_readComparison_0 16 rfl rfl)
theorem dX3_readComparison_17 : decode cX3_readComparison 17 = .ok (.bipush 60, 2) := dk_16 60 (dk_at dksX3_readComparison_0 17 rfl rfl)
theorem dX3_readComparison_19 : decode cX3_readComparison 19 = .ok (.if_icmp .eq 19, 3) := dk_159 0 19 (dk_at dksX3_readComparison_0 19 rfl rfl)
theorem dX3_readComparison_22 : decode cX3_readComparison 22 = .ok (.iload_n 2, 1) := dk_28 (dk_at dksX3_readComparison_0 22 rfl rfl)
theorem dX3_readComparison_23 : decode cX3_readComparison 23 = .ok (.bipush 61, 2) := dk_16 61 (dk_at dksX3_readComparison_1 0 rfl rfl)
theorem dX3_readComparison_25 : decode cX3_readComparison 25 = .ok (.if_icmp .eq 13, 3) := dk_159 0 13 (dk_at dksX3_readComparison_1 2 rfl rfl)
theorem dX3_readComparison_28 : decode cX3_readComparison 28 = .ok (.iload_n 2, 1) := dk_28 (dk_at dksX3_readComparison_1 5 rfl rfl)
theorem dX3_readComparison_29 : decode cX3_readComparison 29 = .ok (.bipush 62, 2) := dk_16 62 (dk_at dksX3_readComparison_1 6 rfl rfl)
theorem dX3_readComparison_31 : decode cX3_readComparison 31 = .ok (.if_icmp .eq 7, 3) := dk_159 0 7 (dk_at dksX3_readComparison_1 8 rfl rfl)
theorem dX3_readComparison_34 : decode cX3_readComparison 34 = .ok (.iconst 1, 1) := dk_4 (dk_at dksX3_readComparison_1 11 rfl rfl)
theorem dX3_readComparison_35 : decode cX3_readComparison 35 = .ok (.goto 4, 3) := dk_167 0 4 (dk_at dksX3_readComparison_1 12 rfl rfl)
theorem dX3_readComparison_38 : decode cX3_readComparison 38 = .ok (.iconst 0, 1) := dk_3 (dk_at dksX3_readComparison_1 15 rfl rfl)
theorem dX3_readComparison_39 : decode cX3_readComparison 39 = .ok (.putfield 120, 3) := dk_181 0 120 (dk_at dksX3_readComparison_1 16 rfl rfl)
theorem dX3_readComparison_42 : decode cX3_readComparison 42 = .ok (.aload_n 0, 1) := dk_42 (dk_at dksX3_readComparison_1 19 rfl rfl)
theorem dX3_readComparison_43 : decode cX3_readComparison 43 = .ok (.getfield 120, 3) := dk_180 0 120 (dk_at dksX3_readComparison_1 20 rfl rfl)
theorem dX3_readComparison_46 : decode cX3_readComparison 46 = .ok (.ifCond .eq 4, 3) := dk_153 0 4 (dk_at dksX3_readComparison_2 0 rfl rfl)
theorem dX3_readComparison_49 : decode cX3_readComparison 49 = .ok (.return_, 1) := dk_177 (dk_at dksX3_readComparison_2 3 rfl rfl)
theorem dX3_readComparison_50 : decode cX3_readComparison 50 = .ok (.aload_n 0, 1) := dk_42 (dk_at dksX3_readComparison_2 4 rfl rfl)
theorem dX3_readComparison_51 : decode cX3_readComparison 51 = .ok (.dup, 1) := dk_89 (dk_at dksX3_readComparison_2 5 rfl rfl)
theorem dX3_readComparison_52 : decode cX3_readComparison 52 = .ok (.getfield 114, 3) := dk_180 0 114 (dk_at dksX3_readComparison_2 6 rfl rfl)
theorem dX3_readComparison_55 : decode cX3_readComparison 55 = .ok (.iconst 1, 1) := dk_4 (dk_at dksX3_readComparison_2 9 rfl rfl)
theorem dX3_readComparison_56 : decode cX3_readComparison 56 = .ok (.iadd, 1) := dk_96 (dk_at dksX3_readComparison_2 10 rfl rfl)
theorem dX3_readComparison_57 : decode cX3_readComparison 57 = .ok (.putfield 114, 3) := dk_181 0 114 (dk_at dksX3_readComparison_2 11 rfl rfl)
theorem dX3_readComparison_60 : decode cX3_readComparison 60 = .ok (.aload_n 0, 1) := dk_42 (dk_at dksX3_readComparison_2 14 rfl rfl)
theorem dX3_readComparison_61 : decode cX3_readComparison 61 = .ok (.invokevirtual 291, 3) := dk_182 1 35 (dk_at dksX3_readComparison_2 15 rfl rfl)
theorem dX3_readComparison_64 : decode cX3_readComparison 64 = .ok (.bipush 45, 2) := dk_16 45 (dk_at dksX3_readComparison_2 18 rfl rfl)
theorem dX3_readComparison_66 : decode cX3_readComparison 66 = .ok (.if_icmp .ne 7, 3) := dk_160 0 7 (dk_at dksX3_readComparison_2 20 rfl rfl)
theorem dX3_readComparison_69 : decode cX3_readComparison 69 = .ok (.iconst 1, 1) := dk_4 (dk_at dksX3_readComparison_2 23 rfl rfl)
theorem dX3_readComparison_70 : decode cX3_readComparison 70 = .ok (.goto 4, 3) := dk_167 0 4 (dk_at dksX3_readComparison_3 0 rfl rfl)
theorem dX3_readComparison_73 : decode cX3_readComparison 73 = .ok (.iconst 0, 1) := dk_3 (dk_at dksX3_readComparison_3 3 rfl rfl)
theorem dX3_readComparison_74 : decode cX3_readComparison 74 = .ok (.istore_n 3, 1) := dk_62 (dk_at dksX3_readComparison_3 4 rfl rfl)
theorem dX3_readComparison_75 : decode cX3_readComparison 75 = .ok (.iload_n 3, 1) := dk_29 (dk_at dksX3_readComparison_3 5 rfl rfl)
theorem dX3_readComparison_76 : decode cX3_readComparison 76 = .ok (.ifCond .eq 13, 3) := dk_153 0 13 (dk_at dksX3_readComparison_3 6 rfl rfl)
theorem dX3_readComparison_79 : decode cX3_readComparison 79 = .ok (.aload_n 0, 1) := dk_42 (dk_at dksX3_readComparison_3 9 rfl rfl)
theorem dX3_readComparison_80 : decode cX3_readComparison 80 = .ok (.dup, 1) := dk_89 (dk_at dksX3_readComparison_3 10 rfl rfl)
theorem dX3_readComparison_81 : decode cX3_readComparison 81 = .ok (.getfield 114, 3) := dk_180 0 114 (dk_at dksX3_readComparison_3 11 rfl rfl)
theorem dX3_readComparison_84 : decode cX3_readComparison 84 = .ok (.iconst 1, 1) := dk_4 (dk_at dksX3_readComparison_3 14 rfl rfl)
theorem dX3_readComparison_85 : decode cX3_readComparison 85 = .ok (.iadd, 1) := dk_96 (dk_at dksX3_readComparison_3 15 rfl rfl)
theorem dX3_readComparison_86 : decode cX3_readComparison 86 = .ok (.putfield 114, 3) := dk_181 0 114 (dk_at dksX3_readComparison_3 16 rfl rfl)
theorem dX3_readComparison_89 : decode cX3_readComparison 89 = .ok (.aload_n 0, 1) := dk_42 (dk_at dksX3_readComparison_3 19 rfl rfl)
theorem dX3_readComparison_90 : decode cX3_readComparison 90 = .ok (.aload_n 0, 1) := dk_42 (dk_at dksX3_readComparison_3 20 rfl rfl)
theorem dX3_readComparison_91 : decode cX3_readComparison 91 = .ok (.invokevirtual 312, 3) := dk_182 1 56 (dk_at dksX3_readComparison_3 21 rfl rfl)
theorem dX3_readComparison_94 : decode cX3_readComparison 94 = .ok (.ifCond .ne 7, 3) := dk_154 0 7 (dk_at dksX3_readComparison_4 0 rfl rfl)
theorem dX3_readComparison_97 : decode cX3_readComparison 97 = .ok (.iconst 1, 1) := dk_4 (dk_at dksX3_readComparison_4 3 rfl rfl)
theorem dX3_readComparison_98 : decode cX3_readComparison 98 = .ok (.goto 4, 3) := dk_167 0 4 (dk_at dksX3_readComparison_4 4 rfl rfl)
theorem dX3_readComparison_101 : decode cX3_readComparison 101 = .ok (.iconst 0, 1) := dk_3 (dk_at dksX3_readComparison_4 7 rfl rfl)
theorem dX3_readComparison_102 : decode cX3_readComparison 102 = .ok (.putfield 120, 3) := dk_181 0 120 (dk_at dksX3_readComparison_4 8 rfl rfl)
theorem dX3_readComparison_105 : decode cX3_readComparison 105 = .ok (.iconst 0, 1) := dk_3 (dk_at dksX3_readComparison_4 11 rfl rfl)
theorem dX3_readComparison_106 : decode cX3_readComparison 106 = .ok (.istore 4, 2) := dk_54 4 (dk_at dksX3_readComparison_4 12 rfl rfl)
theorem dX3_readComparison_108 : decode cX3_readComparison 108 = .ok (.iconst 0, 1) := dk_3 (dk_at dksX3_readComparison_4 14 rfl rfl)
theorem dX3_readComparison_109 : decode cX3_readComparison 109 = .ok (.istore 5, 2) := dk_54 5 (dk_at dksX3_readComparison_4 15 rfl rfl)
theorem dX3_readComparison_111 : decode cX3_readComparison 111 = .ok (.iload 5, 2) := dk_21 5 (dk_at dksX3_readComparison_4 17 rfl rfl)
theorem dX3_readComparison_113 : decode cX3_readComparison 113 = .ok (.iconst 4, 1) := dk_7 (dk_at dksX3_readComparison_4 19 rfl rfl)
theorem dX3_readComparison_114 : decode cX3_readComparison 114 = .ok (.if_icmp .ge 41, 3) := dk_162 0 41 (dk_at dksX3_readComparison_4 20 rfl rfl)
theorem dX3_readComparison_117 : decode cX3_readComparison 117 = .ok (.aload_n 0, 1) := dk_42 (dk_at dksX3_readComparison_4 23 rfl rfl)
theorem dX3_readComparison_118 : decode cX3_readComparison 118 = .ok (.invokevirtual 312, 3) := dk_182 1 56 (dk_at dksX3_readComparison_5 0 rfl rfl)
theorem dX3_readComparison_121 : decode cX3_readComparison 121 = .ok (.ifCond .eq 34, 3) := dk_153 0 34 (dk_at dksX3_readComparison_5 3 rfl rfl)
theorem dX3_readComparison_124 : decode cX3_readComparison 124 = .ok (.bipush 10, 2) := dk_16 10 (dk_at dksX3_readComparison_5 6 rfl rfl)
theorem dX3_readComparison_126 : decode cX3_readComparison 126 = .ok (.iload 4, 2) := dk_21 4 (dk_at dksX3_readComparison_5 8 rfl rfl)
theorem dX3_readComparison_128 : decode cX3_readComparison 128 = .ok (.imul, 1) := dk_104 (dk_at dksX3_readComparison_5 10 rfl rfl)
theorem dX3_readComparison_129 : decode cX3_readComparison 129 = .ok (.aload_n 0, 1) := dk_42 (dk_at dksX3_readComparison_5 11 rfl rfl)
theorem dX3_readComparison_130 : decode cX3_readComparison 130 = .ok (.invokevirtual 291, 3) := dk_182 1 35 (dk_at dksX3_readComparison_5 12 rfl rfl)
theorem dX3_readComparison_133 : decode cX3_readComparison 133 = .ok (.iadd, 1) := dk_96 (dk_at dksX3_readComparison_5 15 rfl rfl)
theorem dX3_readComparison_134 : decode cX3_readComparison 134 = .ok (.bipush 48, 2) := dk_16 48 (dk_at dksX3_readComparison_5 16 rfl rfl)
theorem dX3_readComparison_136 : decode cX3_readComparison 136 = .ok (.isub, 1) := dk_100 (dk_at dksX3_readComparison_5 18 rfl rfl)
theorem dX3_readComparison_137 : decode cX3_readComparison 137 = .ok (.istore 4, 2) := dk_54 4 (dk_at dksX3_readComparison_5 19 rfl rfl)
theorem dX3_readComparison_139 : decode cX3_readComparison 139 = .ok (.aload_n 0, 1) := dk_42 (dk_at dksX3_readComparison_5 21 rfl rfl)
theorem dX3_readComparison_140 : decode cX3_readComparison 140 = .ok (.dup, 1) := dk_89 (dk_at dksX3_readComparison_5 22 rfl rfl)
theorem dX3_readComparison_141 : decode cX3_readComparison 141 = .ok (.getfield 114, 3) := dk_180 0 114 (dk_at dksX3_readComparison_6 0 rfl rfl)
theorem dX3_readComparison_144 : decode cX3_readComparison 144 = .ok (.iconst 1, 1) := dk_4 (dk_at dksX3_readComparison_6 3 rfl rfl)
theorem dX3_readComparison_145 : decode cX3_readComparison 145 = .ok (.iadd, 1) := dk_96 (dk_at dksX3_readComparison_6 4 rfl rfl)
theorem dX3_readComparison_146 : decode cX3_readComparison 146 = .ok (.putfield 114, 3) := dk_181 0 114 (dk_at dksX3_readComparison_6 5 rfl rfl)
theorem dX3_readComparison_149 : decode cX3_readComparison 149 = .ok (.iinc 5 1, 3) := dk_132 5 1 (dk_at dksX3_readComparison_6 8 rfl rfl)
theorem dX3_readComparison_152 : decode cX3_readComparison 152 = .ok (.goto (-41), 3) := dk_167 255 215 (dk_at dksX3_readComparison_6 11 rfl rfl)
theorem dX3_readComparison_155 : decode cX3_readComparison 155 = .ok (.aload_n 0, 1) := dk_42 (dk_at dksX3_readComparison_6 14 rfl rfl)
theorem dX3_readComparison_156 : decode cX3_readComparison 156 = .ok (.iload_n 1, 1) := dk_27 (dk_at dksX3_readComparison_6 15 rfl rfl)
theorem dX3_readComparison_157 : decode cX3_readComparison 157 = .ok (.iload_n 2, 1) := dk_28 (dk_at dksX3_readComparison_6 16 rfl rfl)
theorem dX3_readComparison_158 : decode cX3_readComparison 158 = .ok (.iload_n 3, 1) := dk_29 (dk_at dksX3_readComparison_6 17 rfl rfl)
theorem dX3_readComparison_159 : decode cX3_readComparison 159 = .ok (.ifCond .eq 9, 3) := dk_153 0 9 (dk_at dksX3_readComparison_6 18 rfl rfl)
theorem dX3_readComparison_162 : decode cX3_readComparison 162 = .ok (.iload 4, 2) := dk_21 4 (dk_at dksX3_readComparison_6 21 rfl rfl)
theorem dX3_readComparison_164 : decode cX3_readComparison 164 = .ok (.ineg, 1) := dk_116 (dk_at dksX3_readComparison_6 23 rfl rfl)
theorem dX3_readComparison_165 : decode cX3_readComparison 165 = .ok (.goto 5, 3) := dk_167 0 5 (dk_at dksX3_readComparison_7 0 rfl rfl)
theorem dX3_readComparison_168 : decode cX3_readComparison 168 = .ok (.iload 4, 2) := dk_21 4 (dk_at dksX3_readComparison_7 3 rfl rfl)
theorem dX3_readComparison_170 : decode cX3_readComparison 170 = .ok (.invokevirtual 297, 3) := dk_182 1 41 (dk_at dksX3_readComparison_7 5 rfl rfl)
theorem dX3_readComparison_173 : decode cX3_readComparison 173 = .ok (.return_, 1) := dk_177 (dk_at dksX3_readComparison_7 8 rfl rfl)
abbrev cX3_matchCount : ByteArray := prog_10_method_87_code
def yX3_matchCount : MethodName := ⟨RX3, "matchCount", "(I)I"⟩
def dkwX3_matchCount_2 : List UInt8 := [153, 0, 7, 4, 167, 0, 4, 3, 96, 61, 132, 3, 1, 167, 255, 219, 28, 172]
abbrev dktX3_matchCount_2 : List UInt8 := dkwX3_matchCount_2 ++ []
def dkwX3_matchCount_1 : List UInt8 := [42, 180, 0, 42, 162, 0, 35, 28, 42, 180, 0, 23, 29, 46, 154, 0, 16, 42, 27, 29, 182, 1, 14]
abbrev dktX3_matchCount_1 : List UInt8 := dkwX3_matchCount_1 ++ dktX3_matchCount_2
def dkwX3_matchCount_0 : List UInt8 := [42, 3, 181, 0, 1, 42, 27, 182, 1, 32, 154, 0, 9, 42, 4, 182, 0, 190, 172, 3, 61, 3, 62, 29]
abbrev dktX3_matchCount_0 : List UInt8 := dkwX3_matchCount_0 ++ dktX3_matchCount_1
theorem dksX3_matchCount_0 : cX3_matchCount.data.toList.drop 0 = dktX3_matchCount_0 := by decide +kernel
theorem dksX3_matchCount_1 : cX3_matchCount.data.toList.drop 24 = dktX3_matchCount_1 := dk_seg dksX3_matchCount_0 24 rfl rfl
theorem dksX3_matchCount_2 : cX3_matchCount.data.toList.drop 47 = dktX3_matchCount_2 := dk_seg dksX3_matchCount_1 23 rfl rfl
theorem dX3_matchCount_0 : decode cX3_matchCount 0 = .ok (.aload_n 0, 1) := dk_42 (dk_at dksX3_matchCount_0 0 rfl rfl)
theorem dX3_matchCount_1 : decode cX3_matchCount 1 = .ok (.iconst 0, 1) := dk_3 (dk_at dksX3_matchCount_0 1 rfl rfl)
theorem dX3_matchCount_2 : decode cX3_matchCount 2 = .ok (.putfield 1, 3) := dk_181 0 1 (dk_at dksX3_matchCount_0 2 rfl rfl)
theorem dX3_matchCount_5 : decode cX3_matchCount 5 = .ok (.aload_n 0, 1) := dk_42 (dk_at dksX3_matchCount_0 5 rfl rfl)
theorem dX3_matchCount_6 : decode cX3_matchCount 6 = .ok (.iload_n 1, 1) := dk_27 (dk_at dksX3_matchCount_0 6 rfl rfl)
theorem dX3_matchCount_7 : decode cX3_matchCount 7 = .ok (.invokevirtual 288, 3) := dk_182 1 32 (dk_at dksX3_matchCount_0 7 rfl rfl)
theorem dX3_matchCount_10 : decode cX3_matchCount 10 = .ok (.ifCond .ne 9, 3) := dk_154 0 9 (dk_at dksX3_matchCount_0 10 rfl rfl)
theorem dX3_matchCount_13 : decode cX3_matchCount 13 = .ok (.aload_n 0, 1) := dk_42 (dk_at dksX3_matchCount_0 13 rfl rfl)
theorem dX3_matchCount_14 : decode cX3_matchCount 14 = .ok (.iconst 1, 1) := dk_4 (dk_at dksX3_matchCount_0 14 rfl rfl)
theorem dX3_matchCount_15 : decode cX3_matchCount 15 = .ok (.invokevirtual 190, 3) := dk_182 0 190 (dk_at dksX3_matchCount_0 15 rfl rfl)
theorem dX3_matchCount_18 : decode cX3_matchCount 18 = .ok (.ireturn, 1) := dk_172 (dk_at dksX3_matchCount_0 18 rfl rfl)
theorem dX3_matchCount_19 : decode cX3_matchCount 19 = .ok (.iconst 0, 1) := dk_3 (dk_at dksX3_matchCount_0 19 rfl rfl)
theorem dX3_matchCount_20 : decode cX3_matchCount 20 = .ok (.istore_n 2, 1) := dk_61 (dk_at dksX3_matchCount_0 20 rfl rfl)
theorem dX3_matchCount_21 : decode cX3_matchCount 21 = .ok (.iconst 0, 1) := dk_3 (dk_at dksX3_matchCount_0 21 rfl rfl)
theorem dX3_matchCount_22 : decode cX3_matchCount 22 = .ok (.istore_n 3, 1) := dk_62 (dk_at dksX3_matchCount_0 22 rfl rfl)
theorem dX3_matchCount_23 : decode cX3_matchCount 23 = .ok (.iload_n 3, 1) := dk_29 (dk_at dksX3_matchCount_0 23 rfl rfl)
theorem dX3_matchCount_24 : decode cX3_matchCount 24 = .ok (.aload_n 0, 1) := dk_42 (dk_at dksX3_matchCount_1 0 rfl rfl)
theorem dX3_matchCount_25 : decode cX3_matchCount 25 = .ok (.getfield 42, 3) := dk_180 0 42 (dk_at dksX3_matchCount_1 1 rfl rfl)
theorem dX3_matchCount_28 : decode cX3_matchCount 28 = .ok (.if_icmp .ge 35, 3) := dk_162 0 35 (dk_at dksX3_matchCount_1 4 rfl rfl)
theorem dX3_matchCount_31 : decode cX3_matchCount 31 = .ok (.iload_n 2, 1) := dk_28 (dk_at dksX3_matchCount_1 7 rfl rfl)
theorem dX3_matchCount_32 : decode cX3_matchCount 32 = .ok (.aload_n 0, 1) := dk_42 (dk_at dksX3_matchCount_1 8 rfl rfl)
theorem dX3_matchCount_33 : decode cX3_matchCount 33 = .ok (.getfield 23, 3) := dk_180 0 23 (dk_at dksX3_matchCount_1 9 rfl rfl)
theorem dX3_matchCount_36 : decode cX3_matchCount 36 = .ok (.iload_n 3, 1) := dk_29 (dk_at dksX3_matchCount_1 12 rfl rfl)
theorem dX3_matchCount_37 : decode cX3_matchCount 37 = .ok (.iaload, 1) := dk_46 (dk_at dksX3_matchCount_1 13 rfl rfl)
theorem dX3_matchCount_38 : decode cX3_matchCount 38 = .ok (.ifCond .ne 16, 3) := dk_154 0 16 (dk_at dksX3_matchCount_1 14 rfl rfl)
theorem dX3_matchCount_41 : decode cX3_matchCount 41 = .ok (.aload_n 0, 1) := dk_42 (dk_at dksX3_matchCount_1 17 rfl rfl)
theorem dX3_matchCount_42 : decode cX3_matchCount 42 = .ok (.iload_n 1, 1) := dk_27 (dk_at dksX3_matchCount_1 18 rfl rfl)
theorem dX3_matchCount_43 : decode cX3_matchCount 43 = .ok (.iload_n 3, 1) := dk_29 (dk_at dksX3_matchCount_1 19 rfl rfl)
theorem dX3_matchCount_44 : decode cX3_matchCount 44 = .ok (.invokevirtual 270, 3) := dk_182 1 14 (dk_at dksX3_matchCount_1 20 rfl rfl)
theorem dX3_matchCount_47 : decode cX3_matchCount 47 = .ok (.ifCond .eq 7, 3) := dk_153 0 7 (dk_at dksX3_matchCount_2 0 rfl rfl)
theorem dX3_matchCount_50 : decode cX3_matchCount 50 = .ok (.iconst 1, 1) := dk_4 (dk_at dksX3_matchCount_2 3 rfl rfl)
theorem dX3_matchCount_51 : decode cX3_matchCount 51 = .ok (.goto 4, 3) := dk_167 0 4 (dk_at dksX3_matchCount_2 4 rfl rfl)
theorem dX3_matchCount_54 : decode cX3_matchCount 54 = .ok (.iconst 0, 1) := dk_3 (dk_at dksX3_matchCount_2 7 rfl rfl)
theorem dX3_matchCount_55 : decode cX3_matchCount 55 = .ok (.iadd, 1) := dk_96 (dk_at dksX3_matchCount_2 8 rfl rfl)
theorem dX3_matchCount_56 : decode cX3_matchCount 56 = .ok (.istore_n 2, 1) := dk_61 (dk_at dksX3_matchCount_2 9 rfl rfl)
theorem dX3_matchCount_57 : decode cX3_matchCount 57 = .ok (.iinc 3 1, 3) := dk_132 3 1 (dk_at dksX3_matchCount_2 10 rfl rfl)
theorem dX3_matchCount_60 : decode cX3_matchCount 60 = .ok (.goto (-37), 3) := dk_167 255 219 (dk_at dksX3_matchCount_2 13 rfl rfl)
theorem dX3_matchCount_63 : decode cX3_matchCount 63 = .ok (.iload_n 2, 1) := dk_28 (dk_at dksX3_matchCount_2 16 rfl rfl)
theorem dX3_matchCount_64 : decode cX3_matchCount 64 = .ok (.ireturn, 1) := dk_172 (dk_at dksX3_matchCount_2 17 rfl rfl)
abbrev cX3_takes : ByteArray := prog_10_method_72_code
def yX3_takes : MethodName := ⟨RX3, "takes", "(II)Z"⟩
def dkwX3_takes_9 : List UInt8 := [154, 0, 7, 4, 167, 0, 4, 3, 172, 42, 27, 28, 182, 1, 26, 172]
abbrev dktX3_takes_9 : List UInt8 := dkwX3_takes_9 ++ []
def dkwX3_takes_8 : List UInt8 := [154, 0, 8, 21, 4, 153, 0, 7, 4, 167, 0, 21, 3, 167, 0, 17, 29, 153, 0, 12, 21, 4]
abbrev dktX3_takes_8 : List UInt8 := dkwX3_takes_8 ++ dktX3_takes_9
def dkwX3_takes_7 : List UInt8 := [153, 0, 7, 4, 167, 0, 48, 3, 167, 0, 44, 42, 180, 0, 84, 27, 46, 4, 160, 0, 20, 29]
abbrev dktX3_takes_7 : List UInt8 := dkwX3_takes_7 ++ dktX3_takes_8
def dkwX3_takes_6 : List UInt8 := [46, 28, 182, 1, 14, 54, 4, 42, 180, 0, 84, 27, 46, 154, 0, 20, 29, 153, 0, 12, 21, 4]
abbrev dktX3_takes_6 : List UInt8 := dkwX3_takes_6 ++ dktX3_takes_7
def dkwX3_takes_5 : List UInt8 := [4, 167, 0, 4, 3, 172, 42, 42, 180, 0, 87, 27, 46, 28, 182, 1, 14, 62, 42, 42, 180, 0, 90, 27]
abbrev dktX3_takes_5 : List UInt8 := dkwX3_takes_5 ++ dktX3_takes_6
def dkwX3_takes_4 : List UInt8 := [180, 0, 90, 27, 46, 184, 0, 163, 172, 42, 180, 0, 20, 28, 46, 42, 180, 0, 84, 27, 46, 164, 0, 7]
abbrev dktX3_takes_4 : List UInt8 := dkwX3_takes_4 ++ dktX3_takes_5
def dkwX3_takes_3 : List UInt8 := [28, 182, 1, 23, 172, 42, 28, 42, 180, 0, 84, 27, 46, 182, 1, 17, 42, 180, 0, 87, 27, 46, 42]
abbrev dktX3_takes_3 : List UInt8 := dkwX3_takes_3 ++ dktX3_takes_4
def dkwX3_takes_2 : List UInt8 := [4, 172, 42, 180, 0, 13, 28, 46, 42, 180, 0, 17, 28, 46, 160, 0, 7, 4, 167, 0, 4, 3, 172, 42]
abbrev dktX3_takes_2 : List UInt8 := dkwX3_takes_2 ++ dktX3_takes_3
def dkwX3_takes_1 : List UInt8 := [170, 0, 0, 0, 0, 208, 0, 0, 0, 0, 0, 0, 0, 5, 0, 0, 0, 38, 0, 0, 0, 40, 0, 0, 0, 61, 0, 0, 0, 67, 0, 0, 0, 94, 0, 0, 0, 115]
abbrev dktX3_takes_1 : List UInt8 := dkwX3_takes_1 ++ dktX3_takes_2
def dkwX3_takes_0 : List UInt8 := [42, 180, 0, 81, 27, 46]
abbrev dktX3_takes_0 : List UInt8 := dkwX3_takes_0 ++ dktX3_takes_1
theorem dksX3_takes_0 : cX3_takes.data.toList.drop 0 = dktX3_takes_0 := by decide +kernel
theorem dksX3_takes_1 : cX3_takes.data.toList.drop 6 = dktX3_takes_1 := dk_seg dksX3_takes_0 6 rfl rfl
theorem dksX3_takes_2 : cX3_takes.data.toList.drop 44 = dktX3_takes_2 := dk_seg dksX3_takes_1 38 rfl rfl
theorem dksX3_takes_3 : cX3_takes.data.toList.drop 68 = dktX3_takes_3 := dk_seg dksX3_takes_2 24 rfl rfl
theorem dksX3_takes_4 : cX3_takes.data.toList.drop 91 = dktX3_takes_4 := dk_seg dksX3_takes_3 23 rfl rfl
theorem dksX3_takes_5 : cX3_takes.data.toList.drop 115 = dktX3_takes_5 := dk_seg dksX3_takes_4 24 rfl rfl
theorem dksX3_takes_6 : cX3_takes.data.toList.drop 139 = dktX3_takes_6 := dk_seg dksX3_takes_5 24 rfl rfl
theorem dksX3_takes_7 : cX3_takes.data.toList.drop 161 = dktX3_takes_7 := dk_seg dksX3_takes_6 22 rfl rfl
theorem dksX3_takes_8 : cX3_takes.data.toList.drop 183 = dktX3_takes_8 := dk_seg dksX3_takes_7 22 rfl rfl
theorem dksX3_takes_9 : cX3_takes.data.toList.drop 205 = dktX3_takes_9 := dk_seg dksX3_takes_8 22 rfl rfl
theorem dX3_takes_0 : decode cX3_takes 0 = .ok (.aload_n 0, 1) := dk_42 (dk_at dksX3_takes_0 0 rfl rfl)
theorem dX3_takes_1 : decode cX3_takes 1 = .ok (.getfield 81, 3) := dk_180 0 81 (dk_at dksX3_takes_0 1 rfl rfl)
theorem dX3_takes_4 : decode cX3_takes 4 = .ok (.iload_n 1, 1) := dk_27 (dk_at dksX3_takes_0 4 rfl rfl)
theorem dX3_takes_5 : decode cX3_takes 5 = .ok (.iaload, 1) := dk_46 (dk_at dksX3_takes_0 5 rfl rfl)
theorem dX3_takes_6 : decode cX3_takes 6 = .ok (.tableswitch 208 0 5 #[38, 40, 61, 67, 94, 115], 38) := by decide +kernel
theorem dX3_takes_44 : decode cX3_takes 44 = .ok (.iconst 1, 1) := dk_4 (dk_at dksX3_takes_2 0 rfl rfl)
theorem dX3_takes_45 : decode cX3_takes 45 = .ok (.ireturn, 1) := dk_172 (dk_at dksX3_takes_2 1 rfl rfl)
theorem dX3_takes_46 : decode cX3_takes 46 = .ok (.aload_n 0, 1) := dk_42 (dk_at dksX3_takes_2 2 rfl rfl)
theorem dX3_takes_47 : decode cX3_takes 47 = .ok (.getfield 13, 3) := dk_180 0 13 (dk_at dksX3_takes_2 3 rfl rfl)
theorem dX3_takes_50 : decode cX3_takes 50 = .ok (.iload_n 2, 1) := dk_28 (dk_at dksX3_takes_2 6 rfl rfl)
theorem dX3_takes_51 : decode cX3_takes 51 = .ok (.iaload, 1) := dk_46 (dk_at dksX3_takes_2 7 rfl rfl)
theorem dX3_takes_52 : decode cX3_takes 52 = .ok (.aload_n 0, 1) := dk_42 (dk_at dksX3_takes_2 8 rfl rfl)
theorem dX3_takes_53 : decode cX3_takes 53 = .ok (.getfield 17, 3) := dk_180 0 17 (dk_at dksX3_takes_2 9 rfl rfl)
theorem dX3_takes_56 : decode cX3_takes 56 = .ok (.iload_n 2, 1) := dk_28 (dk_at dksX3_takes_2 12 rfl rfl)
theorem dX3_takes_57 : decode cX3_takes 57 = .ok (.iaload, 1) := dk_46 (dk_at dksX3_takes_2 13 rfl rfl)
theorem dX3_takes_58 : decode cX3_takes 58 = .ok (.if_icmp .ne 7, 3) := dk_160 0 7 (dk_at dksX3_takes_2 14 rfl rfl)
theorem dX3_takes_61 : decode cX3_takes 61 = .ok (.iconst 1, 1) := dk_4 (dk_at dksX3_takes_2 17 rfl rfl)
theorem dX3_takes_62 : decode cX3_takes 62 = .ok (.goto 4, 3) := dk_167 0 4 (dk_at dksX3_takes_2 18 rfl rfl)
theorem dX3_takes_65 : decode cX3_takes 65 = .ok (.iconst 0, 1) := dk_3 (dk_at dksX3_takes_2 21 rfl rfl)
theorem dX3_takes_66 : decode cX3_takes 66 = .ok (.ireturn, 1) := dk_172 (dk_at dksX3_takes_2 22 rfl rfl)
theorem dX3_takes_67 : decode cX3_takes 67 = .ok (.aload_n 0, 1) := dk_42 (dk_at dksX3_takes_2 23 rfl rfl)
theorem dX3_takes_68 : decode cX3_takes 68 = .ok (.iload_n 2, 1) := dk_28 (dk_at dksX3_takes_3 0 rfl rfl)
theorem dX3_takes_69 : decode cX3_takes 69 = .ok (.invokevirtual 279, 3) := dk_182 1 23 (dk_at dksX3_takes_3 1 rfl rfl)
theorem dX3_takes_72 : decode cX3_takes 72 = .ok (.ireturn, 1) := dk_172 (dk_at dksX3_takes_3 4 rfl rfl)
theorem dX3_takes_73 : decode cX3_takes 73 = .ok (.aload_n 0, 1) := dk_42 (dk_at dksX3_takes_3 5 rfl rfl)
theorem dX3_takes_74 : decode cX3_takes 74 = .ok (.iload_n 2, 1) := dk_28 (dk_at dksX3_takes_3 6 rfl rfl)
theorem dX3_takes_75 : decode cX3_takes 75 = .ok (.aload_n 0, 1) := dk_42 (dk_at dksX3_takes_3 7 rfl rfl)
theorem dX3_takes_76 : decode cX3_takes 76 = .ok (.getfield 84, 3) := dk_180 0 84 (dk_at dksX3_takes_3 8 rfl rfl)
theorem dX3_takes_79 : decode cX3_takes 79 = .ok (.iload_n 1, 1) := dk_27 (dk_at dksX3_takes_3 11 rfl rfl)
theorem dX3_takes_80 : decode cX3_takes 80 = .ok (.iaload, 1) := dk_46 (dk_at dksX3_takes_3 12 rfl rfl)
theorem dX3_takes_81 : decode cX3_takes 81 = .ok (.invokevirtual 273, 3) := dk_182 1 17 (dk_at dksX3_takes_3 13 rfl rfl)
theorem dX3_takes_84 : decode cX3_takes 84 = .ok (.aload_n 0, 1) := dk_42 (dk_at dksX3_takes_3 16 rfl rfl)
theorem dX3_takes_85 : decode cX3_takes 85 = .ok (.getfield 87, 3) := dk_180 0 87 (dk_at dksX3_takes_3 17 rfl rfl)
theorem dX3_takes_88 : decode cX3_takes 88 = .ok (.iload_n 1, 1) := dk_27 (dk_at dksX3_takes_3 20 rfl rfl)
theorem dX3_takes_89 : decode cX3_takes 89 = .ok (.iaload, 1) := dk_46 (dk_at dksX3_takes_3 21 rfl rfl)
theorem dX3_takes_90 : decode cX3_takes 90 = .ok (.aload_n 0, 1) := dk_42 (dk_at dksX3_takes_3 22 rfl rfl)
theorem dX3_takes_91 : decode cX3_takes 91 = .ok (.getfield 90, 3) := dk_180 0 90 (dk_at dksX3_takes_4 0 rfl rfl)
theorem dX3_takes_94 : decode cX3_takes 94 = .ok (.iload_n 1, 1) := dk_27 (dk_at dksX3_takes_4 3 rfl rfl)
theorem dX3_takes_95 : decode cX3_takes 95 = .ok (.iaload, 1) := dk_46 (dk_at dksX3_takes_4 4 rfl rfl)
theorem dX3_takes_96 : decode cX3_takes 96 = .ok (.invokestatic 163, 3) := dk_184 0 163 (dk_at dksX3_takes_4 5 rfl rfl)
theorem dX3_takes_99 : decode cX3_takes 99 = .ok (.ireturn, 1) := dk_172 (dk_at dksX3_takes_4 8 rfl rfl)
theorem dX3_takes_100 : decode cX3_takes 100 = .ok (.aload_n 0, 1) := dk_42 (dk_at dksX3_takes_4 9 rfl rfl)
theorem dX3_takes_101 : decode cX3_takes 101 = .ok (.getfield 20, 3) := dk_180 0 20 (dk_at dksX3_takes_4 10 rfl rfl)
theorem dX3_takes_104 : decode cX3_takes 104 = .ok (.iload_n 2, 1) := dk_28 (dk_at dksX3_takes_4 13 rfl rfl)
theorem dX3_takes_105 : decode cX3_takes 105 = .ok (.iaload, 1) := dk_46 (dk_at dksX3_takes_4 14 rfl rfl)
theorem dX3_takes_106 : decode cX3_takes 106 = .ok (.aload_n 0, 1) := dk_42 (dk_at dksX3_takes_4 15 rfl rfl)
theorem dX3_takes_107 : decode cX3_takes 107 = .ok (.getfield 84, 3) := dk_180 0 84 (dk_at dksX3_takes_4 16 rfl rfl)
theorem dX3_takes_110 : decode cX3_takes 110 = .ok (.iload_n 1, 1) := dk_27 (dk_at dksX3_takes_4 19 rfl rfl)
theorem dX3_takes_111 : decode cX3_takes 111 = .ok (.iaload, 1) := dk_46 (dk_at dksX3_takes_4 20 rfl rfl)
theorem dX3_takes_112 : decode cX3_takes 112 = .ok (.if_icmp .le 7, 3) := dk_164 0 7 (dk_at dksX3_takes_4 21 rfl rfl)
theorem dX3_takes_115 : decode cX3_takes 115 = .ok (.iconst 1, 1) := dk_4 (dk_at dksX3_takes_5 0 rfl rfl)
theorem dX3_takes_116 : decode cX3_takes 116 = .ok (.goto 4, 3) := dk_167 0 4 (dk_at dksX3_takes_5 1 rfl rfl)
theorem dX3_takes_119 : decode cX3_takes 119 = .ok (.iconst 0, 1) := dk_3 (dk_at dksX3_takes_5 4 rfl rfl)
theorem dX3_takes_120 : decode cX3_takes 120 = .ok (.ireturn, 1) := dk_172 (dk_at dksX3_takes_5 5 rfl rfl)
theorem dX3_takes_121 : decode cX3_takes 121 = .ok (.aload_n 0, 1) := dk_42 (dk_at dksX3_takes_5 6 rfl rfl)
theorem dX3_takes_122 : decode cX3_takes 122 = .ok (.aload_n 0, 1) := dk_42 (dk_at dksX3_takes_5 7 rfl rfl)
theorem dX3_takes_123 : decode cX3_takes 123 = .ok (.getfield 87, 3) := dk_180 0 87 (dk_at dksX3_takes_5 8 rfl rfl)
theorem dX3_takes_126 : decode cX3_takes 126 = .ok (.iload_n 1, 1) := dk_27 (dk_at dksX3_takes_5 11 rfl rfl)
theorem dX3_takes_127 : decode cX3_takes 127 = .ok (.iaload, 1) := dk_46 (dk_at dksX3_takes_5 12 rfl rfl)
theorem dX3_takes_128 : decode cX3_takes 128 = .ok (.iload_n 2, 1) := dk_28 (dk_at dksX3_takes_5 13 rfl rfl)
theorem dX3_takes_129 : decode cX3_takes 129 = .ok (.invokevirtual 270, 3) := dk_182 1 14 (dk_at dksX3_takes_5 14 rfl rfl)
theorem dX3_takes_132 : decode cX3_takes 132 = .ok (.istore_n 3, 1) := dk_62 (dk_at dksX3_takes_5 17 rfl rfl)
theorem dX3_takes_133 : decode cX3_takes 133 = .ok (.aload_n 0, 1) := dk_42 (dk_at dksX3_takes_5 18 rfl rfl)
theorem dX3_takes_134 : decode cX3_takes 134 = .ok (.aload_n 0, 1) := dk_42 (dk_at dksX3_takes_5 19 rfl rfl)
theorem dX3_takes_135 : decode cX3_takes 135 = .ok (.getfield 90, 3) := dk_180 0 90 (dk_at dksX3_takes_5 20 rfl rfl)
theorem dX3_takes_138 : decode cX3_takes 138 = .ok (.iload_n 1, 1) := dk_27 (dk_at dksX3_takes_5 23 rfl rfl)
theorem dX3_takes_139 : decode cX3_takes 139 = .ok (.iaload, 1) := dk_46 (dk_at dksX3_takes_6 0 rfl rfl)
theorem dX3_takes_140 : decode cX3_takes 140 = .ok (.iload_n 2, 1) := dk_28 (dk_at dksX3_takes_6 1 rfl rfl)
theorem dX3_takes_141 : decode cX3_takes 141 = .ok (.invokevirtual 270, 3) := dk_182 1 14 (dk_at dksX3_takes_6 2 rfl rfl)
theorem dX3_takes_144 : decode cX3_takes 144 = .ok (.istore 4, 2) := dk_54 4 (dk_at dksX3_takes_6 5 rfl rfl)
theorem dX3_takes_146 : decode cX3_takes 146 = .ok (.aload_n 0, 1) := dk_42 (dk_at dksX3_takes_6 7 rfl rfl)
theorem dX3_takes_147 : decode cX3_takes 147 = .ok (.getfield 84, 3) := dk_180 0 84 (dk_at dksX3_takes_6 8 rfl rfl)
theorem dX3_takes_150 : decode cX3_takes 150 = .ok (.iload_n 1, 1) := dk_27 (dk_at dksX3_takes_6 11 rfl rfl)
theorem dX3_takes_151 : decode cX3_takes 151 = .ok (.iaload, 1) := dk_46 (dk_at dksX3_takes_6 12 rfl rfl)
theorem dX3_takes_152 : decode cX3_takes 152 = .ok (.ifCond .ne 20, 3) := dk_154 0 20 (dk_at dksX3_takes_6 13 rfl rfl)
theorem dX3_takes_155 : decode cX3_takes 155 = .ok (.iload_n 3, 1) := dk_29 (dk_at dksX3_takes_6 16 rfl rfl)
theorem dX3_takes_156 : decode cX3_takes 156 = .ok (.ifCond .eq 12, 3) := dk_153 0 12 (dk_at dksX3_takes_6 17 rfl rfl)
theorem dX3_takes_159 : decode cX3_takes 159 = .ok (.iload 4, 2) := dk_21 4 (dk_at dksX3_takes_6 20 rfl rfl)
theorem dX3_takes_161 : decode cX3_takes 161 = .ok (.ifCond .eq 7, 3) := dk_153 0 7 (dk_at dksX3_takes_7 0 rfl rfl)
theorem dX3_takes_164 : decode cX3_takes 164 = .ok (.iconst 1, 1) := dk_4 (dk_at dksX3_takes_7 3 rfl rfl)
theorem dX3_takes_165 : decode cX3_takes 165 = .ok (.goto 48, 3) := dk_167 0 48 (dk_at dksX3_takes_7 4 rfl rfl)
theorem dX3_takes_168 : decode cX3_takes 168 = .ok (.iconst 0, 1) := dk_3 (dk_at dksX3_takes_7 7 rfl rfl)
theorem dX3_takes_169 : decode cX3_takes 169 = .ok (.goto 44, 3) := dk_167 0 44 (dk_at dksX3_takes_7 8 rfl rfl)
theorem dX3_takes_172 : decode cX3_takes 172 = .ok (.aload_n 0, 1) := dk_42 (dk_at dksX3_takes_7 11 rfl rfl)
theorem dX3_takes_173 : decode cX3_takes 173 = .ok (.getfield 84, 3) := dk_180 0 84 (dk_at dksX3_takes_7 12 rfl rfl)
theorem dX3_takes_176 : decode cX3_takes 176 = .ok (.iload_n 1, 1) := dk_27 (dk_at dksX3_takes_7 15 rfl rfl)
theorem dX3_takes_177 : decode cX3_takes 177 = .ok (.iaload, 1) := dk_46 (dk_at dksX3_takes_7 16 rfl rfl)
theorem dX3_takes_178 : decode cX3_takes 178 = .ok (.iconst 1, 1) := dk_4 (dk_at dksX3_takes_7 17 rfl rfl)
theorem dX3_takes_179 : decode cX3_takes 179 = .ok (.if_icmp .ne 20, 3) := dk_160 0 20 (dk_at dksX3_takes_7 18 rfl rfl)
theorem dX3_takes_182 : decode cX3_takes 182 = .ok (.iload_n 3, 1) := dk_29 (dk_at dksX3_takes_7 21 rfl rfl)
theorem dX3_takes_183 : decode cX3_takes 183 = .ok (.ifCond .ne 8, 3) := dk_154 0 8 (dk_at dksX3_takes_8 0 rfl rfl)
theorem dX3_takes_186 : decode cX3_takes 186 = .ok (.iload 4, 2) := dk_21 4 (dk_at dksX3_takes_8 3 rfl rfl)
theorem dX3_takes_188 : decode cX3_takes 188 = .ok (.ifCond .eq 7, 3) := dk_153 0 7 (dk_at dksX3_takes_8 5 rfl rfl)
theorem dX3_takes_191 : decode cX3_takes 191 = .ok (.iconst 1, 1) := dk_4 (dk_at dksX3_takes_8 8 rfl rfl)
theorem dX3_takes_192 : decode cX3_takes 192 = .ok (.goto 21, 3) := dk_167 0 21 (dk_at dksX3_takes_8 9 rfl rfl)
theorem dX3_takes_195 : decode cX3_takes 195 = .ok (.iconst 0, 1) := dk_3 (dk_at dksX3_takes_8 12 rfl rfl)
theorem dX3_takes_196 : decode cX3_takes 196 = .ok (.goto 17, 3) := dk_167 0 17 (dk_at dksX3_takes_8 13 rfl rfl)
theorem dX3_takes_199 : decode cX3_takes 199 = .ok (.iload_n 3, 1) := dk_29 (dk_at dksX3_takes_8 16 rfl rfl)
theorem dX3_takes_200 : decode cX3_takes 200 = .ok (.ifCond .eq 12, 3) := dk_153 0 12 (dk_at dksX3_takes_8 17 rfl rfl)
theorem dX3_takes_203 : decode cX3_takes 203 = .ok (.iload 4, 2) := dk_21 4 (dk_at dksX3_takes_8 20 rfl rfl)
theorem dX3_takes_205 : decode cX3_takes 205 = .ok (.ifCond .ne 7, 3) := dk_154 0 7 (dk_at dksX3_takes_9 0 rfl rfl)
theorem dX3_takes_208 : decode cX3_takes 208 = .ok (.iconst 1, 1) := dk_4 (dk_at dksX3_takes_9 3 rfl rfl)
theorem dX3_takes_209 : decode cX3_takes 209 = .ok (.goto 4, 3) := dk_167 0 4 (dk_at dksX3_takes_9 4 rfl rfl)
theorem dX3_takes_212 : decode cX3_takes 212 = .ok (.iconst 0, 1) := dk_3 (dk_at dksX3_takes_9 7 rfl rfl)
theorem dX3_takes_213 : decode cX3_takes 213 = .ok (.ireturn, 1) := dk_172 (dk_at dksX3_takes_9 8 rfl rfl)
theorem dX3_takes_214 : decode cX3_takes 214 = .ok (.aload_n 0, 1) := dk_42 (dk_at dksX3_takes_9 9 rfl rfl)
theorem dX3_takes_215 : decode cX3_takes 215 = .ok (.iload_n 1, 1) := dk_27 (dk_at dksX3_takes_9 10 rfl rfl)
theorem dX3_takes_216 : decode cX3_takes 216 = .ok (.iload_n 2, 1) := dk_28 (dk_at dksX3_takes_9 11 rfl rfl)
theorem dX3_takes_217 : decode cX3_takes 217 = .ok (.invokevirtual 282, 3) := dk_182 1 26 (dk_at dksX3_takes_9 12 rfl rfl)
theorem dX3_takes_220 : decode cX3_takes 220 = .ok (.ireturn, 1) := dk_172 (dk_at dksX3_takes_9 15 rfl rfl)
abbrev cX3_overlapsAny : ByteArray := prog_10_method_69_code
def yX3_overlapsAny : MethodName := ⟨RX3, "overlapsAny", "(I)Z"⟩
def dkwX3_overlapsAny_2 : List UInt8 := [132, 2, 1, 167, 255, 209, 3, 172]
abbrev dktX3_overlapsAny_2 : List UInt8 := dkwX3_overlapsAny_2 ++ []
def dkwX3_overlapsAny_1 : List UInt8 := [42, 28, 42, 180, 0, 13, 27, 46, 42, 180, 0, 17, 27, 46, 182, 0, 251, 153, 0, 5, 4, 172]
abbrev dktX3_overlapsAny_1 : List UInt8 := dkwX3_overlapsAny_1 ++ dktX3_overlapsAny_2
def dkwX3_overlapsAny_0 : List UInt8 := [3, 61, 28, 42, 180, 0, 42, 162, 0, 45, 28, 27, 159, 0, 34, 42, 180, 0, 23, 28, 46, 154, 0, 25]
abbrev dktX3_overlapsAny_0 : List UInt8 := dkwX3_overlapsAny_0 ++ dktX3_overlapsAny_1
theorem dksX3_overlapsAny_0 : cX3_overlapsAny.data.toList.drop 0 = dktX3_overlapsAny_0 := by decide +kernel
theorem dksX3_overlapsAny_1 : cX3_overlapsAny.data.toList.drop 24 = dktX3_overlapsAny_1 := dk_seg dksX3_overlapsAny_0 24 rfl rfl
theorem dksX3_overlapsAny_2 : cX3_overlapsAny.data.toList.drop 46 = dktX3_overlapsAny_2 := dk_seg dksX3_overlapsAny_1 22 rfl rfl
theorem dX3_overlapsAny_0 : decode cX3_overlapsAny 0 = .ok (.iconst 0, 1) := dk_3 (dk_at dksX3_overlapsAny_0 0 rfl rfl)
theorem dX3_overlapsAny_1 : decode cX3_overlapsAny 1 = .ok (.istore_n 2, 1) := dk_61 (dk_at dksX3_overlapsAny_0 1 rfl rfl)
theorem dX3_overlapsAny_2 : decode cX3_overlapsAny 2 = .ok (.iload_n 2, 1) := dk_28 (dk_at dksX3_overlapsAny_0 2 rfl rfl)
theorem dX3_overlapsAny_3 : decode cX3_overlapsAny 3 = .ok (.aload_n 0, 1) := dk_42 (dk_at dksX3_overlapsAny_0 3 rfl rfl)
theorem dX3_overlapsAny_4 : decode cX3_overlapsAny 4 = .ok (.getfield 42, 3) := dk_180 0 42 (dk_at dksX3_overlapsAny_0 4 rfl rfl)
theorem dX3_overlapsAny_7 : decode cX3_overlapsAny 7 = .ok (.if_icmp .ge 45, 3) := dk_162 0 45 (dk_at dksX3_overlapsAny_0 7 rfl rfl)
theorem dX3_overlapsAny_10 : decode cX3_overlapsAny 10 = .ok (.iload_n 2, 1) := dk_28 (dk_at dksX3_overlapsAny_0 10 rfl rfl)
theorem dX3_overlapsAny_11 : decode cX3_overlapsAny 11 = .ok (.iload_n 1, 1) := dk_27 (dk_at dksX3_overlapsAny_0 11 rfl rfl)
theorem dX3_overlapsAny_12 : decode cX3_overlapsAny 12 = .ok (.if_icmp .eq 34, 3) := dk_159 0 34 (dk_at dksX3_overlapsAny_0 12 rfl rfl)
theorem dX3_overlapsAny_15 : decode cX3_overlapsAny 15 = .ok (.aload_n 0, 1) := dk_42 (dk_at dksX3_overlapsAny_0 15 rfl rfl)
theorem dX3_overlapsAny_16 : decode cX3_overlapsAny 16 = .ok (.getfield 23, 3) := dk_180 0 23 (dk_at dksX3_overlapsAny_0 16 rfl rfl)
theorem dX3_overlapsAny_19 : decode cX3_overlapsAny 19 = .ok (.iload_n 2, 1) := dk_28 (dk_at dksX3_overlapsAny_0 19 rfl rfl)
theorem dX3_overlapsAny_20 : decode cX3_overlapsAny 20 = .ok (.iaload, 1) := dk_46 (dk_at dksX3_overlapsAny_0 20 rfl rfl)
theorem dX3_overlapsAny_21 : decode cX3_overlapsAny 21 = .ok (.ifCond .ne 25, 3) := dk_154 0 25 (dk_at dksX3_overlapsAny_0 21 rfl rfl)
theorem dX3_overlapsAny_24 : decode cX3_overlapsAny 24 = .ok (.aload_n 0, 1) := dk_42 (dk_at dksX3_overlapsAny_1 0 rfl rfl)
theorem dX3_overlapsAny_25 : decode cX3_overlapsAny 25 = .ok (.iload_n 2, 1) := dk_28 (dk_at dksX3_overlapsAny_1 1 rfl rfl)
theorem dX3_overlapsAny_26 : decode cX3_overlapsAny 26 = .ok (.aload_n 0, 1) := dk_42 (dk_at dksX3_overlapsAny_1 2 rfl rfl)
theorem dX3_overlapsAny_27 : decode cX3_overlapsAny 27 = .ok (.getfield 13, 3) := dk_180 0 13 (dk_at dksX3_overlapsAny_1 3 rfl rfl)
theorem dX3_overlapsAny_30 : decode cX3_overlapsAny 30 = .ok (.iload_n 1, 1) := dk_27 (dk_at dksX3_overlapsAny_1 6 rfl rfl)
theorem dX3_overlapsAny_31 : decode cX3_overlapsAny 31 = .ok (.iaload, 1) := dk_46 (dk_at dksX3_overlapsAny_1 7 rfl rfl)
theorem dX3_overlapsAny_32 : decode cX3_overlapsAny 32 = .ok (.aload_n 0, 1) := dk_42 (dk_at dksX3_overlapsAny_1 8 rfl rfl)
theorem dX3_overlapsAny_33 : decode cX3_overlapsAny 33 = .ok (.getfield 17, 3) := dk_180 0 17 (dk_at dksX3_overlapsAny_1 9 rfl rfl)
theorem dX3_overlapsAny_36 : decode cX3_overlapsAny 36 = .ok (.iload_n 1, 1) := dk_27 (dk_at dksX3_overlapsAny_1 12 rfl rfl)
theorem dX3_overlapsAny_37 : decode cX3_overlapsAny 37 = .ok (.iaload, 1) := dk_46 (dk_at dksX3_overlapsAny_1 13 rfl rfl)
theorem dX3_overlapsAny_38 : decode cX3_overlapsAny 38 = .ok (.invokevirtual 251, 3) := dk_182 0 251 (dk_at dksX3_overlapsAny_1 14 rfl rfl)
theorem dX3_overlapsAny_41 : decode cX3_overlapsAny 41 = .ok (.ifCond .eq 5, 3) := dk_153 0 5 (dk_at dksX3_overlapsAny_1 17 rfl rfl)
theorem dX3_overlapsAny_44 : decode cX3_overlapsAny 44 = .ok (.iconst 1, 1) := dk_4 (dk_at dksX3_overlapsAny_1 20 rfl rfl)
theorem dX3_overlapsAny_45 : decode cX3_overlapsAny 45 = .ok (.ireturn, 1) := dk_172 (dk_at dksX3_overlapsAny_1 21 rfl rfl)
theorem dX3_overlapsAny_46 : decode cX3_overlapsAny 46 = .ok (.iinc 2 1, 3) := dk_132 2 1 (dk_at dksX3_overlapsAny_2 0 rfl rfl)
theorem dX3_overlapsAny_49 : decode cX3_overlapsAny 49 = .ok (.goto (-47), 3) := dk_167 255 209 (dk_at dksX3_overlapsAny_2 3 rfl rfl)
theorem dX3_overlapsAny_52 : decode cX3_overlapsAny 52 = .ok (.iconst 0, 1) := dk_3 (dk_at dksX3_overlapsAny_2 6 rfl rfl)
theorem dX3_overlapsAny_53 : decode cX3_overlapsAny 53 = .ok (.ireturn, 1) := dk_172 (dk_at dksX3_overlapsAny_2 7 rfl rfl)
abbrev cX3_propertyOf : ByteArray := prog_10_method_68_code
def yX3_propertyOf : MethodName := ⟨RX3, "propertyOf", "(II)I"⟩
def dkwX3_propertyOf_2 : List UInt8 := [180, 0, 13, 27, 46, 100, 172]
abbrev dktX3_propertyOf_2 : List UInt8 := dkwX3_propertyOf_2 ++ []
def dkwX3_propertyOf_1 : List UInt8 := [167, 0, 30, 28, 5, 160, 0, 12, 42, 180, 0, 20, 27, 46, 167, 0, 16, 42, 180, 0, 17, 27, 46, 42]
abbrev dktX3_propertyOf_1 : List UInt8 := dkwX3_propertyOf_1 ++ dktX3_propertyOf_2
def dkwX3_propertyOf_0 : List UInt8 := [28, 154, 0, 12, 42, 180, 0, 13, 27, 46, 167, 0, 44, 28, 4, 160, 0, 12, 42, 180, 0, 17, 27, 46]
abbrev dktX3_propertyOf_0 : List UInt8 := dkwX3_propertyOf_0 ++ dktX3_propertyOf_1
theorem dksX3_propertyOf_0 : cX3_propertyOf.data.toList.drop 0 = dktX3_propertyOf_0 := by decide +kernel
theorem dksX3_propertyOf_1 : cX3_propertyOf.data.toList.drop 24 = dktX3_propertyOf_1 := dk_seg dksX3_propertyOf_0 24 rfl rfl
theorem dksX3_propertyOf_2 : cX3_propertyOf.data.toList.drop 48 = dktX3_propertyOf_2 := dk_seg dksX3_propertyOf_1 24 rfl rfl
theorem dX3_propertyOf_0 : decode cX3_propertyOf 0 = .ok (.iload_n 2, 1) := dk_28 (dk_at dksX3_propertyOf_0 0 rfl rfl)
theorem dX3_propertyOf_1 : decode cX3_propertyOf 1 = .ok (.ifCond .ne 12, 3) := dk_154 0 12 (dk_at dksX3_propertyOf_0 1 rfl rfl)
theorem dX3_propertyOf_4 : decode cX3_propertyOf 4 = .ok (.aload_n 0, 1) := dk_42 (dk_at dksX3_propertyOf_0 4 rfl rfl)
theorem dX3_propertyOf_5 : decode cX3_propertyOf 5 = .ok (.getfield 13, 3) := dk_180 0 13 (dk_at dksX3_propertyOf_0 5 rfl rfl)
theorem dX3_propertyOf_8 : decode cX3_propertyOf 8 = .ok (.iload_n 1, 1) := dk_27 (dk_at dksX3_propertyOf_0 8 rfl rfl)
theorem dX3_propertyOf_9 : decode cX3_propertyOf 9 = .ok (.iaload, 1) := dk_46 (dk_at dksX3_propertyOf_0 9 rfl rfl)
theorem dX3_propertyOf_10 : decode cX3_propertyOf 10 = .ok (.goto 44, 3) := dk_167 0 44 (dk_at dksX3_propertyOf_0 10 rfl rfl)
theorem dX3_propertyOf_13 : decode cX3_propertyOf 13 = .ok (.iload_n 2, 1) := dk_28 (dk_at dksX3_propertyOf_0 13 rfl rfl)
theorem dX3_propertyOf_14 : decode cX3_propertyOf 14 = .ok (.iconst 1, 1) := dk_4 (dk_at dksX3_propertyOf_0 14 rfl rfl)
theorem dX3_propertyOf_15 : decode cX3_propertyOf 15 = .ok (.if_icmp .ne 12, 3) := dk_160 0 12 (dk_at dksX3_propertyOf_0 15 rfl rfl)
theorem dX3_propertyOf_18 : decode cX3_propertyOf 18 = .ok (.aload_n 0, 1) := dk_42 (dk_at dksX3_propertyOf_0 18 rfl rfl)
theorem dX3_propertyOf_19 : decode cX3_propertyOf 19 = .ok (.getfield 17, 3) := dk_180 0 17 (dk_at dksX3_propertyOf_0 19 rfl rfl)
theorem dX3_propertyOf_22 : decode cX3_propertyOf 22 = .ok (.iload_n 1, 1) := dk_27 (dk_at dksX3_propertyOf_0 22 rfl rfl)
theorem dX3_propertyOf_23 : decode cX3_propertyOf 23 = .ok (.iaload, 1) := dk_46 (dk_at dksX3_propertyOf_0 23 rfl rfl)
theorem dX3_propertyOf_24 : decode cX3_propertyOf 24 = .ok (.goto 30, 3) := dk_167 0 30 (dk_at dksX3_propertyOf_1 0 rfl rfl)
theorem dX3_propertyOf_27 : decode cX3_propertyOf 27 = .ok (.iload_n 2, 1) := dk_28 (dk_at dksX3_propertyOf_1 3 rfl rfl)
theorem dX3_propertyOf_28 : decode cX3_propertyOf 28 = .ok (.iconst 2, 1) := dk_5 (dk_at dksX3_propertyOf_1 4 rfl rfl)
theorem dX3_propertyOf_29 : decode cX3_propertyOf 29 = .ok (.if_icmp .ne 12, 3) := dk_160 0 12 (dk_at dksX3_propertyOf_1 5 rfl rfl)
theorem dX3_propertyOf_32 : decode cX3_propertyOf 32 = .ok (.aload_n 0, 1) := dk_42 (dk_at dksX3_propertyOf_1 8 rfl rfl)
theorem dX3_propertyOf_33 : decode cX3_propertyOf 33 = .ok (.getfield 20, 3) := dk_180 0 20 (dk_at dksX3_propertyOf_1 9 rfl rfl)
theorem dX3_propertyOf_36 : decode cX3_propertyOf 36 = .ok (.iload_n 1, 1) := dk_27 (dk_at dksX3_propertyOf_1 12 rfl rfl)
theorem dX3_propertyOf_37 : decode cX3_propertyOf 37 = .ok (.iaload, 1) := dk_46 (dk_at dksX3_propertyOf_1 13 rfl rfl)
theorem dX3_propertyOf_38 : decode cX3_propertyOf 38 = .ok (.goto 16, 3) := dk_167 0 16 (dk_at dksX3_propertyOf_1 14 rfl rfl)
theorem dX3_propertyOf_41 : decode cX3_propertyOf 41 = .ok (.aload_n 0, 1) := dk_42 (dk_at dksX3_propertyOf_1 17 rfl rfl)
theorem dX3_propertyOf_42 : decode cX3_propertyOf 42 = .ok (.getfield 17, 3) := dk_180 0 17 (dk_at dksX3_propertyOf_1 18 rfl rfl)
theorem dX3_propertyOf_45 : decode cX3_propertyOf 45 = .ok (.iload_n 1, 1) := dk_27 (dk_at dksX3_propertyOf_1 21 rfl rfl)
theorem dX3_propertyOf_46 : decode cX3_propertyOf 46 = .ok (.iaload, 1) := dk_46 (dk_at dksX3_propertyOf_1 22 rfl rfl)
theorem dX3_propertyOf_47 : decode cX3_propertyOf 47 = .ok (.aload_n 0, 1) := dk_42 (dk_at dksX3_propertyOf_1 23 rfl rfl)
theorem dX3_propertyOf_48 : decode cX3_propertyOf 48 = .ok (.getfield 13, 3) := dk_180 0 13 (dk_at dksX3_propertyOf_2 0 rfl rfl)
theorem dX3_propertyOf_51 : decode cX3_propertyOf 51 = .ok (.iload_n 1, 1) := dk_27 (dk_at dksX3_propertyOf_2 3 rfl rfl)
theorem dX3_propertyOf_52 : decode cX3_propertyOf 52 = .ok (.iaload, 1) := dk_46 (dk_at dksX3_propertyOf_2 4 rfl rfl)
theorem dX3_propertyOf_53 : decode cX3_propertyOf 53 = .ok (.isub, 1) := dk_100 (dk_at dksX3_propertyOf_2 5 rfl rfl)
theorem dX3_propertyOf_54 : decode cX3_propertyOf 54 = .ok (.ireturn, 1) := dk_172 (dk_at dksX3_propertyOf_2 6 rfl rfl)
abbrev cX3_isWritten : ByteArray := prog_10_method_71_code
def yX3_isWritten : MethodName := ⟨RX3, "isWritten", "(II)Z"⟩
def dkwX3_isWritten_10 : List UInt8 := [132, 3, 1, 132, 4, 1, 167, 255, 20, 42, 180, 0, 105, 27, 16, 60, 104, 51, 172]
abbrev dktX3_isWritten_10 : List UInt8 := dkwX3_isWritten_10 ++ []
def dkwX3_isWritten_9 : List UInt8 := [21, 4, 46, 182, 1, 17, 42, 180, 0, 99, 21, 4, 46, 42, 180, 0, 102, 21, 4, 46, 182, 1, 20, 84]
abbrev dktX3_isWritten_9 : List UInt8 := dkwX3_isWritten_9 ++ dktX3_isWritten_10
def dkwX3_isWritten_8 : List UInt8 := [46, 28, 182, 1, 14, 84, 132, 3, 1, 167, 0, 42, 42, 180, 0, 105, 29, 42, 42, 28, 42, 180, 0, 96]
abbrev dktX3_isWritten_8 : List UInt8 := dkwX3_isWritten_8 ++ dktX3_isWritten_9
def dkwX3_isWritten_7 : List UInt8 := [153, 0, 7, 4, 167, 0, 4, 3, 84, 167, 0, 66, 42, 180, 0, 105, 29, 42, 42, 180, 0, 102, 21, 4]
abbrev dktX3_isWritten_7 : List UInt8 := dkwX3_isWritten_7 ++ dktX3_isWritten_8
def dkwX3_isWritten_6 : List UInt8 := [180, 0, 105, 29, 4, 100, 42, 180, 0, 105, 29, 4, 100, 51, 154, 0, 12, 42, 180, 0, 105, 29, 51]
abbrev dktX3_isWritten_6 : List UInt8 := dkwX3_isWritten_6 ++ dktX3_isWritten_7
def dkwX3_isWritten_5 : List UInt8 := [42, 180, 0, 105, 29, 51, 153, 0, 7, 4, 167, 0, 4, 3, 84, 167, 0, 105, 132, 3, 255, 42]
abbrev dktX3_isWritten_5 : List UInt8 := dkwX3_isWritten_5 ++ dktX3_isWritten_6
def dkwX3_isWritten_4 : List UInt8 := [167, 0, 144, 132, 3, 255, 42, 180, 0, 105, 29, 4, 100, 42, 180, 0, 105, 29, 4, 100, 51, 153, 0, 16]
abbrev dktX3_isWritten_4 : List UInt8 := dkwX3_isWritten_4 ++ dktX3_isWritten_5
def dkwX3_isWritten_3 : List UInt8 := [42, 180, 0, 105, 29, 4, 100, 42, 180, 0, 105, 29, 4, 100, 51, 154, 0, 7, 4, 167, 0, 4, 3, 84]
abbrev dktX3_isWritten_3 : List UInt8 := dkwX3_isWritten_3 ++ dktX3_isWritten_4
def dkwX3_isWritten_2 : List UInt8 := [171, 0, 0, 0, 0, 171, 0, 0, 0, 4, 0, 0, 0, 33, 0, 0, 0, 42, 0, 0, 0, 35, 0, 0, 0, 147, 0, 0, 0, 38, 0, 0, 0, 69, 0, 0, 0, 124, 0, 0, 0, 108]
abbrev dktX3_isWritten_2 : List UInt8 := dkwX3_isWritten_2 ++ dktX3_isWritten_3
def dkwX3_isWritten_1 : List UInt8 := [162, 0, 226, 42, 180, 0, 96, 21, 4, 46]
abbrev dktX3_isWritten_1 : List UInt8 := dkwX3_isWritten_1 ++ dktX3_isWritten_2
def dkwX3_isWritten_0 : List UInt8 := [27, 16, 60, 104, 62, 27, 16, 60, 104, 54, 4, 21, 4, 27, 16, 60, 104, 42, 180, 0, 93, 27, 46, 96]
abbrev dktX3_isWritten_0 : List UInt8 := dkwX3_isWritten_0 ++ dktX3_isWritten_1
theorem dksX3_isWritten_0 : cX3_isWritten.data.toList.drop 0 = dktX3_isWritten_0 := by decide +kernel
theorem dksX3_isWritten_1 : cX3_isWritten.data.toList.drop 24 = dktX3_isWritten_1 := dk_seg dksX3_isWritten_0 24 rfl rfl
theorem dksX3_isWritten_2 : cX3_isWritten.data.toList.drop 34 = dktX3_isWritten_2 := dk_seg dksX3_isWritten_1 10 rfl rfl
theorem dksX3_isWritten_3 : cX3_isWritten.data.toList.drop 76 = dktX3_isWritten_3 := dk_seg dksX3_isWritten_2 42 rfl rfl
theorem dksX3_isWritten_4 : cX3_isWritten.data.toList.drop 100 = dktX3_isWritten_4 := dk_seg dksX3_isWritten_3 24 rfl rfl
theorem dksX3_isWritten_5 : cX3_isWritten.data.toList.drop 124 = dktX3_isWritten_5 := dk_seg dksX3_isWritten_4 24 rfl rfl
theorem dksX3_isWritten_6 : cX3_isWritten.data.toList.drop 146 = dktX3_isWritten_6 := dk_seg dksX3_isWritten_5 22 rfl rfl
theorem dksX3_isWritten_7 : cX3_isWritten.data.toList.drop 169 = dktX3_isWritten_7 := dk_seg dksX3_isWritten_6 23 rfl rfl
theorem dksX3_isWritten_8 : cX3_isWritten.data.toList.drop 193 = dktX3_isWritten_8 := dk_seg dksX3_isWritten_7 24 rfl rfl
theorem dksX3_isWritten_9 : cX3_isWritten.data.toList.drop 217 = dktX3_isWritten_9 := dk_seg dksX3_isWritten_8 24 rfl rfl
theorem dksX3_isWritten_10 : cX3_isWritten.data.toList.drop 241 = dktX3_isWritten_10 := dk_seg dksX3_isWritten_9 24 rfl rfl
theorem dX3_isWritten_0 : decode cX3_isWritten 0 = .ok (.iload_n 1, 1) := dk_27 (dk_at dksX3_isWritten_0 0 rfl rfl)
theorem dX3_isWritten_1 : decode cX3_isWritten 1 = .ok (.bipush 60, 2) := dk_16 60 (dk_at dksX3_isWritten_0 1 rfl rfl)
theorem dX3_isWritten_3 : decode cX3_isWritten 3 = .ok (.imul, 1) := dk_104 (dk_at dksX3_isWritten_0 3 rfl rfl)
theorem dX3_isWritten_4 : decode cX3_isWritten 4 = .ok (.istore_n 3, 1) := dk_62 (dk_at dksX3_isWritten_0 4 rfl rfl)
theorem dX3_isWritten_5 : decode cX3_isWritten 5 = .ok (.iload_n 1, 1) := dk_27 (dk_at dksX3_isWritten_0 5 rfl rfl)
theorem dX3_isWritten_6 : decode cX3_isWritten 6 = .ok (.bipush 60, 2) := dk_16 60 (dk_at dksX3_isWritten_0 6 rfl rfl)
theorem dX3_isWritten_8 : decode cX3_isWritten 8 = .ok (.imul, 1) := dk_104 (dk_at dksX3_isWritten_0 8 rfl rfl)
theorem dX3_isWritten_9 : decode cX3_isWritten 9 = .ok (.istore 4, 2) := dk_54 4 (dk_at dksX3_isWritten_0 9 rfl rfl)
theorem dX3_isWritten_11 : decode cX3_isWritten 11 = .ok (.iload 4, 2) := dk_21 4 (dk_at dksX3_isWritten_0 11 rfl rfl)
theorem dX3_isWritten_13 : decode cX3_isWritten 13 = .ok (.iload_n 1, 1) := dk_27 (dk_at dksX3_isWritten_0 13 rfl rfl)
theorem dX3_isWritten_14 : decode cX3_isWritten 14 = .ok (.bipush 60, 2) := dk_16 60 (dk_at dksX3_isWritten_0 14 rfl rfl)
theorem dX3_isWritten_16 : decode cX3_isWritten 16 = .ok (.imul, 1) := dk_104 (dk_at dksX3_isWritten_0 16 rfl rfl)
theorem dX3_isWritten_17 : decode cX3_isWritten 17 = .ok (.aload_n 0, 1) := dk_42 (dk_at dksX3_isWritten_0 17 rfl rfl)
theorem dX3_isWritten_18 : decode cX3_isWritten 18 = .ok (.getfield 93, 3) := dk_180 0 93 (dk_at dksX3_isWritten_0 18 rfl rfl)
theorem dX3_isWritten_21 : decode cX3_isWritten 21 = .ok (.iload_n 1, 1) := dk_27 (dk_at dksX3_isWritten_0 21 rfl rfl)
theorem dX3_isWritten_22 : decode cX3_isWritten 22 = .ok (.iaload, 1) := dk_46 (dk_at dksX3_isWritten_0 22 rfl rfl)
theorem dX3_isWritten_23 : decode cX3_isWritten 23 = .ok (.iadd, 1) := dk_96 (dk_at dksX3_isWritten_0 23 rfl rfl)
theorem dX3_isWritten_24 : decode cX3_isWritten 24 = .ok (.if_icmp .ge 226, 3) := dk_162 0 226 (dk_at dksX3_isWritten_1 0 rfl rfl)
theorem dX3_isWritten_27 : decode cX3_isWritten 27 = .ok (.aload_n 0, 1) := dk_42 (dk_at dksX3_isWritten_1 3 rfl rfl)
theorem dX3_isWritten_28 : decode cX3_isWritten 28 = .ok (.getfield 96, 3) := dk_180 0 96 (dk_at dksX3_isWritten_1 4 rfl rfl)
theorem dX3_isWritten_31 : decode cX3_isWritten 31 = .ok (.iload 4, 2) := dk_21 4 (dk_at dksX3_isWritten_1 7 rfl rfl)
theorem dX3_isWritten_33 : decode cX3_isWritten 33 = .ok (.iaload, 1) := dk_46 (dk_at dksX3_isWritten_1 9 rfl rfl)
theorem dX3_isWritten_34 : decode cX3_isWritten 34 = .ok (.lookupswitch 171 #[(33, 42), (35, 147), (38, 69), (124, 108)], 42) := by decide +kernel
theorem dX3_isWritten_76 : decode cX3_isWritten 76 = .ok (.aload_n 0, 1) := dk_42 (dk_at dksX3_isWritten_3 0 rfl rfl)
theorem dX3_isWritten_77 : decode cX3_isWritten 77 = .ok (.getfield 105, 3) := dk_180 0 105 (dk_at dksX3_isWritten_3 1 rfl rfl)
theorem dX3_isWritten_80 : decode cX3_isWritten 80 = .ok (.iload_n 3, 1) := dk_29 (dk_at dksX3_isWritten_3 4 rfl rfl)
theorem dX3_isWritten_81 : decode cX3_isWritten 81 = .ok (.iconst 1, 1) := dk_4 (dk_at dksX3_isWritten_3 5 rfl rfl)
theorem dX3_isWritten_82 : decode cX3_isWritten 82 = .ok (.isub, 1) := dk_100 (dk_at dksX3_isWritten_3 6 rfl rfl)
theorem dX3_isWritten_83 : decode cX3_isWritten 83 = .ok (.aload_n 0, 1) := dk_42 (dk_at dksX3_isWritten_3 7 rfl rfl)
theorem dX3_isWritten_84 : decode cX3_isWritten 84 = .ok (.getfield 105, 3) := dk_180 0 105 (dk_at dksX3_isWritten_3 8 rfl rfl)
theorem dX3_isWritten_87 : decode cX3_isWritten 87 = .ok (.iload_n 3, 1) := dk_29 (dk_at dksX3_isWritten_3 11 rfl rfl)
theorem dX3_isWritten_88 : decode cX3_isWritten 88 = .ok (.iconst 1, 1) := dk_4 (dk_at dksX3_isWritten_3 12 rfl rfl)
theorem dX3_isWritten_89 : decode cX3_isWritten 89 = .ok (.isub, 1) := dk_100 (dk_at dksX3_isWritten_3 13 rfl rfl)
theorem dX3_isWritten_90 : decode cX3_isWritten 90 = .ok (.baload, 1) := dk_51 (dk_at dksX3_isWritten_3 14 rfl rfl)
theorem dX3_isWritten_91 : decode cX3_isWritten 91 = .ok (.ifCond .ne 7, 3) := dk_154 0 7 (dk_at dksX3_isWritten_3 15 rfl rfl)
theorem dX3_isWritten_94 : decode cX3_isWritten 94 = .ok (.iconst 1, 1) := dk_4 (dk_at dksX3_isWritten_3 18 rfl rfl)
theorem dX3_isWritten_95 : decode cX3_isWritten 95 = .ok (.goto 4, 3) := dk_167 0 4 (dk_at dksX3_isWritten_3 19 rfl rfl)
theorem dX3_isWritten_98 : decode cX3_isWritten 98 = .ok (.iconst 0, 1) := dk_3 (dk_at dksX3_isWritten_3 22 rfl rfl)
theorem dX3_isWritten_99 : decode cX3_isWritten 99 = .ok (.bastore, 1) := dk_84 (dk_at dksX3_isWritten_3 23 rfl rfl)
theorem dX3_isWritten_100 : decode cX3_isWritten 100 = .ok (.goto 144, 3) := dk_167 0 144 (dk_at dksX3_isWritten_4 0 rfl rfl)
theorem dX3_isWritten_103 : decode cX3_isWritten 103 = .ok (.iinc 3 (-1), 3) := dk_132 3 255 (dk_at dksX3_isWritten_4 3 rfl rfl)
theorem dX3_isWritten_106 : decode cX3_isWritten 106 = .ok (.aload_n 0, 1) := dk_42 (dk_at dksX3_isWritten_4 6 rfl rfl)
theorem dX3_isWritten_107 : decode cX3_isWritten 107 = .ok (.getfield 105, 3) := dk_180 0 105 (dk_at dksX3_isWritten_4 7 rfl rfl)
theorem dX3_isWritten_110 : decode cX3_isWritten 110 = .ok (.iload_n 3, 1) := dk_29 (dk_at dksX3_isWritten_4 10 rfl rfl)
theorem dX3_isWritten_111 : decode cX3_isWritten 111 = .ok (.iconst 1, 1) := dk_4 (dk_at dksX3_isWritten_4 11 rfl rfl)
theorem dX3_isWritten_112 : decode cX3_isWritten 112 = .ok (.isub, 1) := dk_100 (dk_at dksX3_isWritten_4 12 rfl rfl)
theorem dX3_isWritten_113 : decode cX3_isWritten 113 = .ok (.aload_n 0, 1) := dk_42 (dk_at dksX3_isWritten_4 13 rfl rfl)
theorem dX3_isWritten_114 : decode cX3_isWritten 114 = .ok (.getfield 105, 3) := dk_180 0 105 (dk_at dksX3_isWritten_4 14 rfl rfl)
theorem dX3_isWritten_117 : decode cX3_isWritten 117 = .ok (.iload_n 3, 1) := dk_29 (dk_at dksX3_isWritten_4 17 rfl rfl)
theorem dX3_isWritten_118 : decode cX3_isWritten 118 = .ok (.iconst 1, 1) := dk_4 (dk_at dksX3_isWritten_4 18 rfl rfl)
theorem dX3_isWritten_119 : decode cX3_isWritten 119 = .ok (.isub, 1) := dk_100 (dk_at dksX3_isWritten_4 19 rfl rfl)
theorem dX3_isWritten_120 : decode cX3_isWritten 120 = .ok (.baload, 1) := dk_51 (dk_at dksX3_isWritten_4 20 rfl rfl)
theorem dX3_isWritten_121 : decode cX3_isWritten 121 = .ok (.ifCond .eq 16, 3) := dk_153 0 16 (dk_at dksX3_isWritten_4 21 rfl rfl)
theorem dX3_isWritten_124 : decode cX3_isWritten 124 = .ok (.aload_n 0, 1) := dk_42 (dk_at dksX3_isWritten_5 0 rfl rfl)
theorem dX3_isWritten_125 : decode cX3_isWritten 125 = .ok (.getfield 105, 3) := dk_180 0 105 (dk_at dksX3_isWritten_5 1 rfl rfl)
theorem dX3_isWritten_128 : decode cX3_isWritten 128 = .ok (.iload_n 3, 1) := dk_29 (dk_at dksX3_isWritten_5 4 rfl rfl)
theorem dX3_isWritten_129 : decode cX3_isWritten 129 = .ok (.baload, 1) := dk_51 (dk_at dksX3_isWritten_5 5 rfl rfl)
theorem dX3_isWritten_130 : decode cX3_isWritten 130 = .ok (.ifCond .eq 7, 3) := dk_153 0 7 (dk_at dksX3_isWritten_5 6 rfl rfl)
theorem dX3_isWritten_133 : decode cX3_isWritten 133 = .ok (.iconst 1, 1) := dk_4 (dk_at dksX3_isWritten_5 9 rfl rfl)
theorem dX3_isWritten_134 : decode cX3_isWritten 134 = .ok (.goto 4, 3) := dk_167 0 4 (dk_at dksX3_isWritten_5 10 rfl rfl)
theorem dX3_isWritten_137 : decode cX3_isWritten 137 = .ok (.iconst 0, 1) := dk_3 (dk_at dksX3_isWritten_5 13 rfl rfl)
theorem dX3_isWritten_138 : decode cX3_isWritten 138 = .ok (.bastore, 1) := dk_84 (dk_at dksX3_isWritten_5 14 rfl rfl)
theorem dX3_isWritten_139 : decode cX3_isWritten 139 = .ok (.goto 105, 3) := dk_167 0 105 (dk_at dksX3_isWritten_5 15 rfl rfl)
theorem dX3_isWritten_142 : decode cX3_isWritten 142 = .ok (.iinc 3 (-1), 3) := dk_132 3 255 (dk_at dksX3_isWritten_5 18 rfl rfl)
theorem dX3_isWritten_145 : decode cX3_isWritten 145 = .ok (.aload_n 0, 1) := dk_42 (dk_at dksX3_isWritten_5 21 rfl rfl)
theorem dX3_isWritten_146 : decode cX3_isWritten 146 = .ok (.getfield 105, 3) := dk_180 0 105 (dk_at dksX3_isWritten_6 0 rfl rfl)
theorem dX3_isWritten_149 : decode cX3_isWritten 149 = .ok (.iload_n 3, 1) := dk_29 (dk_at dksX3_isWritten_6 3 rfl rfl)
theorem dX3_isWritten_150 : decode cX3_isWritten 150 = .ok (.iconst 1, 1) := dk_4 (dk_at dksX3_isWritten_6 4 rfl rfl)
theorem dX3_isWritten_151 : decode cX3_isWritten 151 = .ok (.isub, 1) := dk_100 (dk_at dksX3_isWritten_6 5 rfl rfl)
theorem dX3_isWritten_152 : decode cX3_isWritten 152 = .ok (.aload_n 0, 1) := dk_42 (dk_at dksX3_isWritten_6 6 rfl rfl)
theorem dX3_isWritten_153 : decode cX3_isWritten 153 = .ok (.getfield 105, 3) := dk_180 0 105 (dk_at dksX3_isWritten_6 7 rfl rfl)
theorem dX3_isWritten_156 : decode cX3_isWritten 156 = .ok (.iload_n 3, 1) := dk_29 (dk_at dksX3_isWritten_6 10 rfl rfl)
theorem dX3_isWritten_157 : decode cX3_isWritten 157 = .ok (.iconst 1, 1) := dk_4 (dk_at dksX3_isWritten_6 11 rfl rfl)
theorem dX3_isWritten_158 : decode cX3_isWritten 158 = .ok (.isub, 1) := dk_100 (dk_at dksX3_isWritten_6 12 rfl rfl)
theorem dX3_isWritten_159 : decode cX3_isWritten 159 = .ok (.baload, 1) := dk_51 (dk_at dksX3_isWritten_6 13 rfl rfl)
theorem dX3_isWritten_160 : decode cX3_isWritten 160 = .ok (.ifCond .ne 12, 3) := dk_154 0 12 (dk_at dksX3_isWritten_6 14 rfl rfl)
theorem dX3_isWritten_163 : decode cX3_isWritten 163 = .ok (.aload_n 0, 1) := dk_42 (dk_at dksX3_isWritten_6 17 rfl rfl)
theorem dX3_isWritten_164 : decode cX3_isWritten 164 = .ok (.getfield 105, 3) := dk_180 0 105 (dk_at dksX3_isWritten_6 18 rfl rfl)
theorem dX3_isWritten_167 : decode cX3_isWritten 167 = .ok (.iload_n 3, 1) := dk_29 (dk_at dksX3_isWritten_6 21 rfl rfl)
theorem dX3_isWritten_168 : decode cX3_isWritten 168 = .ok (.baload, 1) := dk_51 (dk_at dksX3_isWritten_6 22 rfl rfl)
theorem dX3_isWritten_169 : decode cX3_isWritten 169 = .ok (.ifCond .eq 7, 3) := dk_153 0 7 (dk_at dksX3_isWritten_7 0 rfl rfl)
theorem dX3_isWritten_172 : decode cX3_isWritten 172 = .ok (.iconst 1, 1) := dk_4 (dk_at dksX3_isWritten_7 3 rfl rfl)
theorem dX3_isWritten_173 : decode cX3_isWritten 173 = .ok (.goto 4, 3) := dk_167 0 4 (dk_at dksX3_isWritten_7 4 rfl rfl)
theorem dX3_isWritten_176 : decode cX3_isWritten 176 = .ok (.iconst 0, 1) := dk_3 (dk_at dksX3_isWritten_7 7 rfl rfl)
theorem dX3_isWritten_177 : decode cX3_isWritten 177 = .ok (.bastore, 1) := dk_84 (dk_at dksX3_isWritten_7 8 rfl rfl)
theorem dX3_isWritten_178 : decode cX3_isWritten 178 = .ok (.goto 66, 3) := dk_167 0 66 (dk_at dksX3_isWritten_7 9 rfl rfl)
theorem dX3_isWritten_181 : decode cX3_isWritten 181 = .ok (.aload_n 0, 1) := dk_42 (dk_at dksX3_isWritten_7 12 rfl rfl)
theorem dX3_isWritten_182 : decode cX3_isWritten 182 = .ok (.getfield 105, 3) := dk_180 0 105 (dk_at dksX3_isWritten_7 13 rfl rfl)
theorem dX3_isWritten_185 : decode cX3_isWritten 185 = .ok (.iload_n 3, 1) := dk_29 (dk_at dksX3_isWritten_7 16 rfl rfl)
theorem dX3_isWritten_186 : decode cX3_isWritten 186 = .ok (.aload_n 0, 1) := dk_42 (dk_at dksX3_isWritten_7 17 rfl rfl)
theorem dX3_isWritten_187 : decode cX3_isWritten 187 = .ok (.aload_n 0, 1) := dk_42 (dk_at dksX3_isWritten_7 18 rfl rfl)
theorem dX3_isWritten_188 : decode cX3_isWritten 188 = .ok (.getfield 102, 3) := dk_180 0 102 (dk_at dksX3_isWritten_7 19 rfl rfl)
theorem dX3_isWritten_191 : decode cX3_isWritten 191 = .ok (.iload 4, 2) := dk_21 4 (dk_at dksX3_isWritten_7 22 rfl rfl)
theorem dX3_isWritten_193 : decode cX3_isWritten 193 = .ok (.iaload, 1) := dk_46 (dk_at dksX3_isWritten_8 0 rfl rfl)
theorem dX3_isWritten_194 : decode cX3_isWritten 194 = .ok (.iload_n 2, 1) := dk_28 (dk_at dksX3_isWritten_8 1 rfl rfl)
theorem dX3_isWritten_195 : decode cX3_isWritten 195 = .ok (.invokevirtual 270, 3) := dk_182 1 14 (dk_at dksX3_isWritten_8 2 rfl rfl)
theorem dX3_isWritten_198 : decode cX3_isWritten 198 = .ok (.bastore, 1) := dk_84 (dk_at dksX3_isWritten_8 5 rfl rfl)
theorem dX3_isWritten_199 : decode cX3_isWritten 199 = .ok (.iinc 3 1, 3) := dk_132 3 1 (dk_at dksX3_isWritten_8 6 rfl rfl)
theorem dX3_isWritten_202 : decode cX3_isWritten 202 = .ok (.goto 42, 3) := dk_167 0 42 (dk_at dksX3_isWritten_8 9 rfl rfl)
theorem dX3_isWritten_205 : decode cX3_isWritten 205 = .ok (.aload_n 0, 1) := dk_42 (dk_at dksX3_isWritten_8 12 rfl rfl)
theorem dX3_isWritten_206 : decode cX3_isWritten 206 = .ok (.getfield 105, 3) := dk_180 0 105 (dk_at dksX3_isWritten_8 13 rfl rfl)
theorem dX3_isWritten_209 : decode cX3_isWritten 209 = .ok (.iload_n 3, 1) := dk_29 (dk_at dksX3_isWritten_8 16 rfl rfl)
theorem dX3_isWritten_210 : decode cX3_isWritten 210 = .ok (.aload_n 0, 1) := dk_42 (dk_at dksX3_isWritten_8 17 rfl rfl)
theorem dX3_isWritten_211 : decode cX3_isWritten 211 = .ok (.aload_n 0, 1) := dk_42 (dk_at dksX3_isWritten_8 18 rfl rfl)
theorem dX3_isWritten_212 : decode cX3_isWritten 212 = .ok (.iload_n 2, 1) := dk_28 (dk_at dksX3_isWritten_8 19 rfl rfl)
theorem dX3_isWritten_213 : decode cX3_isWritten 213 = .ok (.aload_n 0, 1) := dk_42 (dk_at dksX3_isWritten_8 20 rfl rfl)
theorem dX3_isWritten_214 : decode cX3_isWritten 214 = .ok (.getfield 96, 3) := dk_180 0 96 (dk_at dksX3_isWritten_8 21 rfl rfl)
theorem dX3_isWritten_217 : decode cX3_isWritten 217 = .ok (.iload 4, 2) := dk_21 4 (dk_at dksX3_isWritten_9 0 rfl rfl)
theorem dX3_isWritten_219 : decode cX3_isWritten 219 = .ok (.iaload, 1) := dk_46 (dk_at dksX3_isWritten_9 2 rfl rfl)
theorem dX3_isWritten_220 : decode cX3_isWritten 220 = .ok (.invokevirtual 273, 3) := dk_182 1 17 (dk_at dksX3_isWritten_9 3 rfl rfl)
theorem dX3_isWritten_223 : decode cX3_isWritten 223 = .ok (.aload_n 0, 1) := dk_42 (dk_at dksX3_isWritten_9 6 rfl rfl)
theorem dX3_isWritten_224 : decode cX3_isWritten 224 = .ok (.getfield 99, 3) := dk_180 0 99 (dk_at dksX3_isWritten_9 7 rfl rfl)
theorem dX3_isWritten_227 : decode cX3_isWritten 227 = .ok (.iload 4, 2) := dk_21 4 (dk_at dksX3_isWritten_9 10 rfl rfl)
theorem dX3_isWritten_229 : decode cX3_isWritten 229 = .ok (.iaload, 1) := dk_46 (dk_at dksX3_isWritten_9 12 rfl rfl)
theorem dX3_isWritten_230 : decode cX3_isWritten 230 = .ok (.aload_n 0, 1) := dk_42 (dk_at dksX3_isWritten_9 13 rfl rfl)
theorem dX3_isWritten_231 : decode cX3_isWritten 231 = .ok (.getfield 102, 3) := dk_180 0 102 (dk_at dksX3_isWritten_9 14 rfl rfl)
theorem dX3_isWritten_234 : decode cX3_isWritten 234 = .ok (.iload 4, 2) := dk_21 4 (dk_at dksX3_isWritten_9 17 rfl rfl)
theorem dX3_isWritten_236 : decode cX3_isWritten 236 = .ok (.iaload, 1) := dk_46 (dk_at dksX3_isWritten_9 19 rfl rfl)
theorem dX3_isWritten_237 : decode cX3_isWritten 237 = .ok (.invokevirtual 276, 3) := dk_182 1 20 (dk_at dksX3_isWritten_9 20 rfl rfl)
theorem dX3_isWritten_240 : decode cX3_isWritten 240 = .ok (.bastore, 1) := dk_84 (dk_at dksX3_isWritten_9 23 rfl rfl)
theorem dX3_isWritten_241 : decode cX3_isWritten 241 = .ok (.iinc 3 1, 3) := dk_132 3 1 (dk_at dksX3_isWritten_10 0 rfl rfl)
theorem dX3_isWritten_244 : decode cX3_isWritten 244 = .ok (.iinc 4 1, 3) := dk_132 4 1 (dk_at dksX3_isWritten_10 3 rfl rfl)
theorem dX3_isWritten_247 : decode cX3_isWritten 247 = .ok (.goto (-236), 3) := dk_167 255 20 (dk_at dksX3_isWritten_10 6 rfl rfl)
theorem dX3_isWritten_250 : decode cX3_isWritten 250 = .ok (.aload_n 0, 1) := dk_42 (dk_at dksX3_isWritten_10 9 rfl rfl)
theorem dX3_isWritten_251 : decode cX3_isWritten 251 = .ok (.getfield 105, 3) := dk_180 0 105 (dk_at dksX3_isWritten_10 10 rfl rfl)
theorem dX3_isWritten_254 : decode cX3_isWritten 254 = .ok (.iload_n 1, 1) := dk_27 (dk_at dksX3_isWritten_10 13 rfl rfl)
theorem dX3_isWritten_255 : decode cX3_isWritten 255 = .ok (.bipush 60, 2) := dk_16 60 (dk_at dksX3_isWritten_10 14 rfl rfl)
theorem dX3_isWritten_257 : decode cX3_isWritten 257 = .ok (.imul, 1) := dk_104 (dk_at dksX3_isWritten_10 16 rfl rfl)
theorem dX3_isWritten_258 : decode cX3_isWritten 258 = .ok (.baload, 1) := dk_51 (dk_at dksX3_isWritten_10 17 rfl rfl)
theorem dX3_isWritten_259 : decode cX3_isWritten 259 = .ok (.ireturn, 1) := dk_172 (dk_at dksX3_isWritten_10 18 rfl rfl)
abbrev cX3_isCompared : ByteArray := prog_10_method_70_code
def yX3_isCompared : MethodName := ⟨RX3, "isCompared", "(III)Z"⟩
def dkwX3_isCompared_2 : List UInt8 := [167, 0, 4, 3, 172]
abbrev dktX3_isCompared_2 : List UInt8 := dkwX3_isCompared_2 ++ []
def dkwX3_isCompared_1 : List UInt8 := [160, 0, 16, 27, 29, 160, 0, 7, 4, 167, 0, 17, 3, 167, 0, 13, 27, 29, 164, 0, 7, 4]
abbrev dktX3_isCompared_1 : List UInt8 := dkwX3_isCompared_1 ++ dktX3_isCompared_2
def dkwX3_isCompared_0 : List UInt8 := [28, 16, 60, 160, 0, 16, 27, 29, 162, 0, 7, 4, 167, 0, 36, 3, 167, 0, 32, 28, 16, 61]
abbrev dktX3_isCompared_0 : List UInt8 := dkwX3_isCompared_0 ++ dktX3_isCompared_1
theorem dksX3_isCompared_0 : cX3_isCompared.data.toList.drop 0 = dktX3_isCompared_0 := by decide +kernel
theorem dksX3_isCompared_1 : cX3_isCompared.data.toList.drop 22 = dktX3_isCompared_1 := dk_seg dksX3_isCompared_0 22 rfl rfl
theorem dksX3_isCompared_2 : cX3_isCompared.data.toList.drop 44 = dktX3_isCompared_2 := dk_seg dksX3_isCompared_1 22 rfl rfl
theorem dX3_isCompared_0 : decode cX3_isCompared 0 = .ok (.iload_n 2, 1) := dk_28 (dk_at dksX3_isCompared_0 0 rfl rfl)
theorem dX3_isCompared_1 : decode cX3_isCompared 1 = .ok (.bipush 60, 2) := dk_16 60 (dk_at dksX3_isCompared_0 1 rfl rfl)
theorem dX3_isCompared_3 : decode cX3_isCompared 3 = .ok (.if_icmp .ne 16, 3) := dk_160 0 16 (dk_at dksX3_isCompared_0 3 rfl rfl)
theorem dX3_isCompared_6 : decode cX3_isCompared 6 = .ok (.iload_n 1, 1) := dk_27 (dk_at dksX3_isCompared_0 6 rfl rfl)
theorem dX3_isCompared_7 : decode cX3_isCompared 7 = .ok (.iload_n 3, 1) := dk_29 (dk_at dksX3_isCompared_0 7 rfl rfl)
theorem dX3_isCompared_8 : decode cX3_isCompared 8 = .ok (.if_icmp .ge 7, 3) := dk_162 0 7 (dk_at dksX3_isCompared_0 8 rfl rfl)
theorem dX3_isCompared_11 : decode cX3_isCompared 11 = .ok (.iconst 1, 1) := dk_4 (dk_at dksX3_isCompared_0 11 rfl rfl)
theorem dX3_isCompared_12 : decode cX3_isCompared 12 = .ok (.goto 36, 3) := dk_167 0 36 (dk_at dksX3_isCompared_0 12 rfl rfl)
theorem dX3_isCompared_15 : decode cX3_isCompared 15 = .ok (.iconst 0, 1) := dk_3 (dk_at dksX3_isCompared_0 15 rfl rfl)
theorem dX3_isCompared_16 : decode cX3_isCompared 16 = .ok (.goto 32, 3) := dk_167 0 32 (dk_at dksX3_isCompared_0 16 rfl rfl)
theorem dX3_isCompared_19 : decode cX3_isCompared 19 = .ok (.iload_n 2, 1) := dk_28 (dk_at dksX3_isCompared_0 19 rfl rfl)
theorem dX3_isCompared_20 : decode cX3_isCompared 20 = .ok (.bipush 61, 2) := dk_16 61 (dk_at dksX3_isCompared_0 20 rfl rfl)
theorem dX3_isCompared_22 : decode cX3_isCompared 22 = .ok (.if_icmp .ne 16, 3) := dk_160 0 16 (dk_at dksX3_isCompared_1 0 rfl rfl)
theorem dX3_isCompared_25 : decode cX3_isCompared 25 = .ok (.iload_n 1, 1) := dk_27 (dk_at dksX3_isCompared_1 3 rfl rfl)
theorem dX3_isCompared_26 : decode cX3_isCompared 26 = .ok (.iload_n 3, 1) := dk_29 (dk_at dksX3_isCompared_1 4 rfl rfl)
theorem dX3_isCompared_27 : decode cX3_isCompared 27 = .ok (.if_icmp .ne 7, 3) := dk_160 0 7 (dk_at dksX3_isCompared_1 5 rfl rfl)
theorem dX3_isCompared_30 : decode cX3_isCompared 30 = .ok (.iconst 1, 1) := dk_4 (dk_at dksX3_isCompared_1 8 rfl rfl)
theorem dX3_isCompared_31 : decode cX3_isCompared 31 = .ok (.goto 17, 3) := dk_167 0 17 (dk_at dksX3_isCompared_1 9 rfl rfl)
theorem dX3_isCompared_34 : decode cX3_isCompared 34 = .ok (.iconst 0, 1) := dk_3 (dk_at dksX3_isCompared_1 12 rfl rfl)
theorem dX3_isCompared_35 : decode cX3_isCompared 35 = .ok (.goto 13, 3) := dk_167 0 13 (dk_at dksX3_isCompared_1 13 rfl rfl)
theorem dX3_isCompared_38 : decode cX3_isCompared 38 = .ok (.iload_n 1, 1) := dk_27 (dk_at dksX3_isCompared_1 16 rfl rfl)
theorem dX3_isCompared_39 : decode cX3_isCompared 39 = .ok (.iload_n 3, 1) := dk_29 (dk_at dksX3_isCompared_1 17 rfl rfl)
theorem dX3_isCompared_40 : decode cX3_isCompared 40 = .ok (.if_icmp .le 7, 3) := dk_164 0 7 (dk_at dksX3_isCompared_1 18 rfl rfl)
theorem dX3_isCompared_43 : decode cX3_isCompared 43 = .ok (.iconst 1, 1) := dk_4 (dk_at dksX3_isCompared_1 21 rfl rfl)
theorem dX3_isCompared_44 : decode cX3_isCompared 44 = .ok (.goto 4, 3) := dk_167 0 4 (dk_at dksX3_isCompared_2 0 rfl rfl)
theorem dX3_isCompared_47 : decode cX3_isCompared 47 = .ok (.iconst 0, 1) := dk_3 (dk_at dksX3_isCompared_2 3 rfl rfl)
theorem dX3_isCompared_48 : decode cX3_isCompared 48 = .ok (.ireturn, 1) := dk_172 (dk_at dksX3_isCompared_2 4 rfl rfl)
abbrev cX3_accepts : ByteArray := prog_10_method_88_code
def yX3_accepts : MethodName := ⟨RX3, "accepts", "(II)Z"⟩
def dkwX3_accepts_2 : List UInt8 := [182, 0, 190, 158, 0, 7, 4, 167, 0, 4, 3, 172]
abbrev dktX3_accepts_2 : List UInt8 := dkwX3_accepts_2 ++ []
def dkwX3_accepts_1 : List UInt8 := [167, 0, 4, 3, 172, 42, 28, 182, 0, 221, 153, 0, 12, 42, 27, 28, 182, 1, 14, 167, 0, 16, 42, 5]
abbrev dktX3_accepts_1 : List UInt8 := dkwX3_accepts_1 ++ dktX3_accepts_2
def dkwX3_accepts_0 : List UInt8 := [42, 3, 181, 0, 1, 42, 27, 182, 1, 32, 154, 0, 17, 42, 4, 182, 0, 190, 158, 0, 7, 4]
abbrev dktX3_accepts_0 : List UInt8 := dkwX3_accepts_0 ++ dktX3_accepts_1
theorem dksX3_accepts_0 : cX3_accepts.data.toList.drop 0 = dktX3_accepts_0 := by decide +kernel
theorem dksX3_accepts_1 : cX3_accepts.data.toList.drop 22 = dktX3_accepts_1 := dk_seg dksX3_accepts_0 22 rfl rfl
theorem dksX3_accepts_2 : cX3_accepts.data.toList.drop 46 = dktX3_accepts_2 := dk_seg dksX3_accepts_1 24 rfl rfl
theorem dX3_accepts_0 : decode cX3_accepts 0 = .ok (.aload_n 0, 1) := dk_42 (dk_at dksX3_accepts_0 0 rfl rfl)
theorem dX3_accepts_1 : decode cX3_accepts 1 = .ok (.iconst 0, 1) := dk_3 (dk_at dksX3_accepts_0 1 rfl rfl)
theorem dX3_accepts_2 : decode cX3_accepts 2 = .ok (.putfield 1, 3) := dk_181 0 1 (dk_at dksX3_accepts_0 2 rfl rfl)
theorem dX3_accepts_5 : decode cX3_accepts 5 = .ok (.aload_n 0, 1) := dk_42 (dk_at dksX3_accepts_0 5 rfl rfl)
theorem dX3_accepts_6 : decode cX3_accepts 6 = .ok (.iload_n 1, 1) := dk_27 (dk_at dksX3_accepts_0 6 rfl rfl)
theorem dX3_accepts_7 : decode cX3_accepts 7 = .ok (.invokevirtual 288, 3) := dk_182 1 32 (dk_at dksX3_accepts_0 7 rfl rfl)
theorem dX3_accepts_10 : decode cX3_accepts 10 = .ok (.ifCond .ne 17, 3) := dk_154 0 17 (dk_at dksX3_accepts_0 10 rfl rfl)
theorem dX3_accepts_13 : decode cX3_accepts 13 = .ok (.aload_n 0, 1) := dk_42 (dk_at dksX3_accepts_0 13 rfl rfl)
theorem dX3_accepts_14 : decode cX3_accepts 14 = .ok (.iconst 1, 1) := dk_4 (dk_at dksX3_accepts_0 14 rfl rfl)
theorem dX3_accepts_15 : decode cX3_accepts 15 = .ok (.invokevirtual 190, 3) := dk_182 0 190 (dk_at dksX3_accepts_0 15 rfl rfl)
theorem dX3_accepts_18 : decode cX3_accepts 18 = .ok (.ifCond .le 7, 3) := dk_158 0 7 (dk_at dksX3_accepts_0 18 rfl rfl)
theorem dX3_accepts_21 : decode cX3_accepts 21 = .ok (.iconst 1, 1) := dk_4 (dk_at dksX3_accepts_0 21 rfl rfl)
theorem dX3_accepts_22 : decode cX3_accepts 22 = .ok (.goto 4, 3) := dk_167 0 4 (dk_at dksX3_accepts_1 0 rfl rfl)
theorem dX3_accepts_25 : decode cX3_accepts 25 = .ok (.iconst 0, 1) := dk_3 (dk_at dksX3_accepts_1 3 rfl rfl)
theorem dX3_accepts_26 : decode cX3_accepts 26 = .ok (.ireturn, 1) := dk_172 (dk_at dksX3_accepts_1 4 rfl rfl)
theorem dX3_accepts_27 : decode cX3_accepts 27 = .ok (.aload_n 0, 1) := dk_42 (dk_at dksX3_accepts_1 5 rfl rfl)
theorem dX3_accepts_28 : decode cX3_accepts 28 = .ok (.iload_n 2, 1) := dk_28 (dk_at dksX3_accepts_1 6 rfl rfl)
theorem dX3_accepts_29 : decode cX3_accepts 29 = .ok (.invokevirtual 221, 3) := dk_182 0 221 (dk_at dksX3_accepts_1 7 rfl rfl)
theorem dX3_accepts_32 : decode cX3_accepts 32 = .ok (.ifCond .eq 12, 3) := dk_153 0 12 (dk_at dksX3_accepts_1 10 rfl rfl)
theorem dX3_accepts_35 : decode cX3_accepts 35 = .ok (.aload_n 0, 1) := dk_42 (dk_at dksX3_accepts_1 13 rfl rfl)
theorem dX3_accepts_36 : decode cX3_accepts 36 = .ok (.iload_n 1, 1) := dk_27 (dk_at dksX3_accepts_1 14 rfl rfl)
theorem dX3_accepts_37 : decode cX3_accepts 37 = .ok (.iload_n 2, 1) := dk_28 (dk_at dksX3_accepts_1 15 rfl rfl)
theorem dX3_accepts_38 : decode cX3_accepts 38 = .ok (.invokevirtual 270, 3) := dk_182 1 14 (dk_at dksX3_accepts_1 16 rfl rfl)
theorem dX3_accepts_41 : decode cX3_accepts 41 = .ok (.goto 16, 3) := dk_167 0 16 (dk_at dksX3_accepts_1 19 rfl rfl)
theorem dX3_accepts_44 : decode cX3_accepts 44 = .ok (.aload_n 0, 1) := dk_42 (dk_at dksX3_accepts_1 22 rfl rfl)
theorem dX3_accepts_45 : decode cX3_accepts 45 = .ok (.iconst 2, 1) := dk_5 (dk_at dksX3_accepts_1 23 rfl rfl)
theorem dX3_accepts_46 : decode cX3_accepts 46 = .ok (.invokevirtual 190, 3) := dk_182 0 190 (dk_at dksX3_accepts_2 0 rfl rfl)
theorem dX3_accepts_49 : decode cX3_accepts 49 = .ok (.ifCond .le 7, 3) := dk_158 0 7 (dk_at dksX3_accepts_2 3 rfl rfl)
theorem dX3_accepts_52 : decode cX3_accepts 52 = .ok (.iconst 1, 1) := dk_4 (dk_at dksX3_accepts_2 6 rfl rfl)
theorem dX3_accepts_53 : decode cX3_accepts 53 = .ok (.goto 4, 3) := dk_167 0 4 (dk_at dksX3_accepts_2 7 rfl rfl)
theorem dX3_accepts_56 : decode cX3_accepts 56 = .ok (.iconst 0, 1) := dk_3 (dk_at dksX3_accepts_2 10 rfl rfl)
theorem dX3_accepts_57 : decode cX3_accepts 57 = .ok (.ireturn, 1) := dk_172 (dk_at dksX3_accepts_2 11 rfl rfl)
abbrev cX3_open : ByteArray := prog_10_method_91_code
def yX3_open : MethodName := ⟨RX3, "open", "(II)I"⟩
def dkwX3_open_2 : List UInt8 := [79, 42, 27, 182, 1, 63, 172]
abbrev dktX3_open_2 : List UInt8 := dkwX3_open_2 ++ []
def dkwX3_open_1 : List UInt8 := [182, 0, 190, 172, 42, 180, 0, 124, 27, 4, 84, 42, 180, 0, 127, 27, 28, 79, 42, 180, 0, 130, 27, 2]
abbrev dktX3_open_1 : List UInt8 := dkwX3_open_1 ++ dktX3_open_2
def dkwX3_open_0 : List UInt8 := [42, 3, 181, 0, 1, 27, 184, 1, 60, 153, 0, 11, 42, 28, 182, 1, 32, 154, 0, 9, 42, 4]
abbrev dktX3_open_0 : List UInt8 := dkwX3_open_0 ++ dktX3_open_1
theorem dksX3_open_0 : cX3_open.data.toList.drop 0 = dktX3_open_0 := by decide +kernel
theorem dksX3_open_1 : cX3_open.data.toList.drop 22 = dktX3_open_1 := dk_seg dksX3_open_0 22 rfl rfl
theorem dksX3_open_2 : cX3_open.data.toList.drop 46 = dktX3_open_2 := dk_seg dksX3_open_1 24 rfl rfl
theorem dX3_open_0 : decode cX3_open 0 = .ok (.aload_n 0, 1) := dk_42 (dk_at dksX3_open_0 0 rfl rfl)
theorem dX3_open_1 : decode cX3_open 1 = .ok (.iconst 0, 1) := dk_3 (dk_at dksX3_open_0 1 rfl rfl)
theorem dX3_open_2 : decode cX3_open 2 = .ok (.putfield 1, 3) := dk_181 0 1 (dk_at dksX3_open_0 2 rfl rfl)
theorem dX3_open_5 : decode cX3_open 5 = .ok (.iload_n 1, 1) := dk_27 (dk_at dksX3_open_0 5 rfl rfl)
theorem dX3_open_6 : decode cX3_open 6 = .ok (.invokestatic 316, 3) := dk_184 1 60 (dk_at dksX3_open_0 6 rfl rfl)
theorem dX3_open_9 : decode cX3_open 9 = .ok (.ifCond .eq 11, 3) := dk_153 0 11 (dk_at dksX3_open_0 9 rfl rfl)
theorem dX3_open_12 : decode cX3_open 12 = .ok (.aload_n 0, 1) := dk_42 (dk_at dksX3_open_0 12 rfl rfl)
theorem dX3_open_13 : decode cX3_open 13 = .ok (.iload_n 2, 1) := dk_28 (dk_at dksX3_open_0 13 rfl rfl)
theorem dX3_open_14 : decode cX3_open 14 = .ok (.invokevirtual 288, 3) := dk_182 1 32 (dk_at dksX3_open_0 14 rfl rfl)
theorem dX3_open_17 : decode cX3_open 17 = .ok (.ifCond .ne 9, 3) := dk_154 0 9 (dk_at dksX3_open_0 17 rfl rfl)
theorem dX3_open_20 : decode cX3_open 20 = .ok (.aload_n 0, 1) := dk_42 (dk_at dksX3_open_0 20 rfl rfl)
theorem dX3_open_21 : decode cX3_open 21 = .ok (.iconst 1, 1) := dk_4 (dk_at dksX3_open_0 21 rfl rfl)
theorem dX3_open_22 : decode cX3_open 22 = .ok (.invokevirtual 190, 3) := dk_182 0 190 (dk_at dksX3_open_1 0 rfl rfl)
theorem dX3_open_25 : decode cX3_open 25 = .ok (.ireturn, 1) := dk_172 (dk_at dksX3_open_1 3 rfl rfl)
theorem dX3_open_26 : decode cX3_open 26 = .ok (.aload_n 0, 1) := dk_42 (dk_at dksX3_open_1 4 rfl rfl)
theorem dX3_open_27 : decode cX3_open 27 = .ok (.getfield 124, 3) := dk_180 0 124 (dk_at dksX3_open_1 5 rfl rfl)
theorem dX3_open_30 : decode cX3_open 30 = .ok (.iload_n 1, 1) := dk_27 (dk_at dksX3_open_1 8 rfl rfl)
theorem dX3_open_31 : decode cX3_open 31 = .ok (.iconst 1, 1) := dk_4 (dk_at dksX3_open_1 9 rfl rfl)
theorem dX3_open_32 : decode cX3_open 32 = .ok (.bastore, 1) := dk_84 (dk_at dksX3_open_1 10 rfl rfl)
theorem dX3_open_33 : decode cX3_open 33 = .ok (.aload_n 0, 1) := dk_42 (dk_at dksX3_open_1 11 rfl rfl)
theorem dX3_open_34 : decode cX3_open 34 = .ok (.getfield 127, 3) := dk_180 0 127 (dk_at dksX3_open_1 12 rfl rfl)
theorem dX3_open_37 : decode cX3_open 37 = .ok (.iload_n 1, 1) := dk_27 (dk_at dksX3_open_1 15 rfl rfl)
theorem dX3_open_38 : decode cX3_open 38 = .ok (.iload_n 2, 1) := dk_28 (dk_at dksX3_open_1 16 rfl rfl)
theorem dX3_open_39 : decode cX3_open 39 = .ok (.iastore, 1) := dk_79 (dk_at dksX3_open_1 17 rfl rfl)
theorem dX3_open_40 : decode cX3_open 40 = .ok (.aload_n 0, 1) := dk_42 (dk_at dksX3_open_1 18 rfl rfl)
theorem dX3_open_41 : decode cX3_open 41 = .ok (.getfield 130, 3) := dk_180 0 130 (dk_at dksX3_open_1 19 rfl rfl)
theorem dX3_open_44 : decode cX3_open 44 = .ok (.iload_n 1, 1) := dk_27 (dk_at dksX3_open_1 22 rfl rfl)
theorem dX3_open_45 : decode cX3_open 45 = .ok (.iconst (-1), 1) := dk_2 (dk_at dksX3_open_1 23 rfl rfl)
theorem dX3_open_46 : decode cX3_open 46 = .ok (.iastore, 1) := dk_79 (dk_at dksX3_open_2 0 rfl rfl)
theorem dX3_open_47 : decode cX3_open 47 = .ok (.aload_n 0, 1) := dk_42 (dk_at dksX3_open_2 1 rfl rfl)
theorem dX3_open_48 : decode cX3_open 48 = .ok (.iload_n 1, 1) := dk_27 (dk_at dksX3_open_2 2 rfl rfl)
theorem dX3_open_49 : decode cX3_open 49 = .ok (.invokevirtual 319, 3) := dk_182 1 63 (dk_at dksX3_open_2 3 rfl rfl)
theorem dX3_open_52 : decode cX3_open 52 = .ok (.ireturn, 1) := dk_172 (dk_at dksX3_open_2 6 rfl rfl)
abbrev cX3_isCursor : ByteArray := prog_10_method_89_code
def yX3_isCursor : MethodName := ⟨RX3, "isCursor", "(I)Z"⟩
def dkwX3_isCursor_0 : List UInt8 := [26, 3, 6, 184, 0, 163, 172]
abbrev dktX3_isCursor_0 : List UInt8 := dkwX3_isCursor_0 ++ []
theorem dksX3_isCursor_0 : cX3_isCursor.data.toList.drop 0 = dktX3_isCursor_0 := by decide +kernel
theorem dX3_isCursor_0 : decode cX3_isCursor 0 = .ok (.iload_n 0, 1) := dk_26 (dk_at dksX3_isCursor_0 0 rfl rfl)
theorem dX3_isCursor_1 : decode cX3_isCursor 1 = .ok (.iconst 0, 1) := dk_3 (dk_at dksX3_isCursor_0 1 rfl rfl)
theorem dX3_isCursor_2 : decode cX3_isCursor 2 = .ok (.iconst 3, 1) := dk_6 (dk_at dksX3_isCursor_0 2 rfl rfl)
theorem dX3_isCursor_3 : decode cX3_isCursor 3 = .ok (.invokestatic 163, 3) := dk_184 0 163 (dk_at dksX3_isCursor_0 3 rfl rfl)
theorem dX3_isCursor_6 : decode cX3_isCursor 6 = .ok (.ireturn, 1) := dk_172 (dk_at dksX3_isCursor_0 6 rfl rfl)
abbrev cX3_following : ByteArray := prog_10_method_90_code
def yX3_following : MethodName := ⟨RX3, "following", "(I)I"⟩
def dkwX3_following_3 : List UInt8 := [182, 1, 14, 153, 0, 5, 29, 61, 132, 3, 1, 167, 255, 179, 28, 172]
abbrev dktX3_following_3 : List UInt8 := dkwX3_following_3 ++ []
def dkwX3_following_2 : List UInt8 := [2, 159, 0, 15, 42, 29, 28, 182, 0, 171, 154, 0, 6, 167, 0, 19, 42, 42, 180, 0, 127, 27, 46, 29]
abbrev dktX3_following_2 : List UInt8 := dkwX3_following_2 ++ dktX3_following_3
def dkwX3_following_1 : List UInt8 := [180, 0, 130, 27, 46, 2, 159, 0, 17, 42, 42, 180, 0, 130, 27, 46, 29, 182, 0, 171, 153, 0, 36, 28]
abbrev dktX3_following_1 : List UInt8 := dkwX3_following_1 ++ dktX3_following_2
def dkwX3_following_0 : List UInt8 := [2, 61, 3, 62, 29, 42, 180, 0, 42, 162, 0, 75, 42, 180, 0, 23, 29, 46, 154, 0, 60, 42]
abbrev dktX3_following_0 : List UInt8 := dkwX3_following_0 ++ dktX3_following_1
theorem dksX3_following_0 : cX3_following.data.toList.drop 0 = dktX3_following_0 := by decide +kernel
theorem dksX3_following_1 : cX3_following.data.toList.drop 22 = dktX3_following_1 := dk_seg dksX3_following_0 22 rfl rfl
theorem dksX3_following_2 : cX3_following.data.toList.drop 46 = dktX3_following_2 := dk_seg dksX3_following_1 24 rfl rfl
theorem dksX3_following_3 : cX3_following.data.toList.drop 70 = dktX3_following_3 := dk_seg dksX3_following_2 24 rfl rfl
theorem dX3_following_0 : decode cX3_following 0 = .ok (.iconst (-1), 1) := dk_2 (dk_at dksX3_following_0 0 rfl rfl)
theorem dX3_following_1 : decode cX3_following 1 = .ok (.istore_n 2, 1) := dk_61 (dk_at dksX3_following_0 1 rfl rfl)
theorem dX3_following_2 : decode cX3_following 2 = .ok (.iconst 0, 1) := dk_3 (dk_at dksX3_following_0 2 rfl rfl)
theorem dX3_following_3 : decode cX3_following 3 = .ok (.istore_n 3, 1) := dk_62 (dk_at dksX3_following_0 3 rfl rfl)
theorem dX3_following_4 : decode cX3_following 4 = .ok (.iload_n 3, 1) := dk_29 (dk_at dksX3_following_0 4 rfl rfl)
theorem dX3_following_5 : decode cX3_following 5 = .ok (.aload_n 0, 1) := dk_42 (dk_at dksX3_following_0 5 rfl rfl)
theorem dX3_following_6 : decode cX3_following 6 = .ok (.getfield 42, 3) := dk_180 0 42 (dk_at dksX3_following_0 6 rfl rfl)
theorem dX3_following_9 : decode cX3_following 9 = .ok (.if_icmp .ge 75, 3) := dk_162 0 75 (dk_at dksX3_following_0 9 rfl rfl)
theorem dX3_following_12 : decode cX3_following 12 = .ok (.aload_n 0, 1) := dk_42 (dk_at dksX3_following_0 12 rfl rfl)
theorem dX3_following_13 : decode cX3_following 13 = .ok (.getfield 23, 3) := dk_180 0 23 (dk_at dksX3_following_0 13 rfl rfl)
theorem dX3_following_16 : decode cX3_following 16 = .ok (.iload_n 3, 1) := dk_29 (dk_at dksX3_following_0 16 rfl rfl)
theorem dX3_following_17 : decode cX3_following 17 = .ok (.iaload, 1) := dk_46 (dk_at dksX3_following_0 17 rfl rfl)
theorem dX3_following_18 : decode cX3_following 18 = .ok (.ifCond .ne 60, 3) := dk_154 0 60 (dk_at dksX3_following_0 18 rfl rfl)
theorem dX3_following_21 : decode cX3_following 21 = .ok (.aload_n 0, 1) := dk_42 (dk_at dksX3_following_0 21 rfl rfl)
theorem dX3_following_22 : decode cX3_following 22 = .ok (.getfield 130, 3) := dk_180 0 130 (dk_at dksX3_following_1 0 rfl rfl)
theorem dX3_following_25 : decode cX3_following 25 = .ok (.iload_n 1, 1) := dk_27 (dk_at dksX3_following_1 3 rfl rfl)
theorem dX3_following_26 : decode cX3_following 26 = .ok (.iaload, 1) := dk_46 (dk_at dksX3_following_1 4 rfl rfl)
theorem dX3_following_27 : decode cX3_following 27 = .ok (.iconst (-1), 1) := dk_2 (dk_at dksX3_following_1 5 rfl rfl)
theorem dX3_following_28 : decode cX3_following 28 = .ok (.if_icmp .eq 17, 3) := dk_159 0 17 (dk_at dksX3_following_1 6 rfl rfl)
theorem dX3_following_31 : decode cX3_following 31 = .ok (.aload_n 0, 1) := dk_42 (dk_at dksX3_following_1 9 rfl rfl)
theorem dX3_following_32 : decode cX3_following 32 = .ok (.aload_n 0, 1) := dk_42 (dk_at dksX3_following_1 10 rfl rfl)
theorem dX3_following_33 : decode cX3_following 33 = .ok (.getfield 130, 3) := dk_180 0 130 (dk_at dksX3_following_1 11 rfl rfl)
theorem dX3_following_36 : decode cX3_following 36 = .ok (.iload_n 1, 1) := dk_27 (dk_at dksX3_following_1 14 rfl rfl)
theorem dX3_following_37 : decode cX3_following 37 = .ok (.iaload, 1) := dk_46 (dk_at dksX3_following_1 15 rfl rfl)
theorem dX3_following_38 : decode cX3_following 38 = .ok (.iload_n 3, 1) := dk_29 (dk_at dksX3_following_1 16 rfl rfl)
theorem dX3_following_39 : decode cX3_following 39 = .ok (.invokevirtual 171, 3) := dk_182 0 171 (dk_at dksX3_following_1 17 rfl rfl)
theorem dX3_following_42 : decode cX3_following 42 = .ok (.ifCond .eq 36, 3) := dk_153 0 36 (dk_at dksX3_following_1 20 rfl rfl)
theorem dX3_following_45 : decode cX3_following 45 = .ok (.iload_n 2, 1) := dk_28 (dk_at dksX3_following_1 23 rfl rfl)
theorem dX3_following_46 : decode cX3_following 46 = .ok (.iconst (-1), 1) := dk_2 (dk_at dksX3_following_2 0 rfl rfl)
theorem dX3_following_47 : decode cX3_following 47 = .ok (.if_icmp .eq 15, 3) := dk_159 0 15 (dk_at dksX3_following_2 1 rfl rfl)
theorem dX3_following_50 : decode cX3_following 50 = .ok (.aload_n 0, 1) := dk_42 (dk_at dksX3_following_2 4 rfl rfl)
theorem dX3_following_51 : decode cX3_following 51 = .ok (.iload_n 3, 1) := dk_29 (dk_at dksX3_following_2 5 rfl rfl)
theorem dX3_following_52 : decode cX3_following 52 = .ok (.iload_n 2, 1) := dk_28 (dk_at dksX3_following_2 6 rfl rfl)
theorem dX3_following_53 : decode cX3_following 53 = .ok (.invokevirtual 171, 3) := dk_182 0 171 (dk_at dksX3_following_2 7 rfl rfl)
theorem dX3_following_56 : decode cX3_following 56 = .ok (.ifCond .ne 6, 3) := dk_154 0 6 (dk_at dksX3_following_2 10 rfl rfl)
theorem dX3_following_59 : decode cX3_following 59 = .ok (.goto 19, 3) := dk_167 0 19 (dk_at dksX3_following_2 13 rfl rfl)
theorem dX3_following_62 : decode cX3_following 62 = .ok (.aload_n 0, 1) := dk_42 (dk_at dksX3_following_2 16 rfl rfl)
theorem dX3_following_63 : decode cX3_following 63 = .ok (.aload_n 0, 1) := dk_42 (dk_at dksX3_following_2 17 rfl rfl)
theorem dX3_following_64 : decode cX3_following 64 = .ok (.getfield 127, 3) := dk_180 0 127 (dk_at dksX3_following_2 18 rfl rfl)
theorem dX3_following_67 : decode cX3_following 67 = .ok (.iload_n 1, 1) := dk_27 (dk_at dksX3_following_2 21 rfl rfl)
theorem dX3_following_68 : decode cX3_following 68 = .ok (.iaload, 1) := dk_46 (dk_at dksX3_following_2 22 rfl rfl)
theorem dX3_following_69 : decode cX3_following 69 = .ok (.iload_n 3, 1) := dk_29 (dk_at dksX3_following_2 23 rfl rfl)
theorem dX3_following_70 : decode cX3_following 70 = .ok (.invokevirtual 270, 3) := dk_182 1 14 (dk_at dksX3_following_3 0 rfl rfl)
theorem dX3_following_73 : decode cX3_following 73 = .ok (.ifCond .eq 5, 3) := dk_153 0 5 (dk_at dksX3_following_3 3 rfl rfl)
theorem dX3_following_76 : decode cX3_following 76 = .ok (.iload_n 3, 1) := dk_29 (dk_at dksX3_following_3 6 rfl rfl)
theorem dX3_following_77 : decode cX3_following 77 = .ok (.istore_n 2, 1) := dk_61 (dk_at dksX3_following_3 7 rfl rfl)
theorem dX3_following_78 : decode cX3_following 78 = .ok (.iinc 3 1, 3) := dk_132 3 1 (dk_at dksX3_following_3 8 rfl rfl)
theorem dX3_following_81 : decode cX3_following 81 = .ok (.goto (-77), 3) := dk_167 255 179 (dk_at dksX3_following_3 11 rfl rfl)
theorem dX3_following_84 : decode cX3_following 84 = .ok (.iload_n 2, 1) := dk_28 (dk_at dksX3_following_3 14 rfl rfl)
theorem dX3_following_85 : decode cX3_following 85 = .ok (.ireturn, 1) := dk_172 (dk_at dksX3_following_3 15 rfl rfl)
abbrev cX3_hasNext : ByteArray := prog_10_method_92_code
def yX3_hasNext : MethodName := ⟨RX3, "hasNext", "(I)Z"⟩
def dkwX3_hasNext_2 : List UInt8 := [3, 167, 0, 16, 42, 5, 182, 0, 190, 158, 0, 7, 4, 167, 0, 4, 3, 172]
abbrev dktX3_hasNext_2 : List UInt8 := dkwX3_hasNext_2 ++ []
def dkwX3_hasNext_1 : List UInt8 := [3, 172, 42, 180, 0, 124, 27, 51, 153, 0, 20, 42, 27, 182, 1, 63, 2, 159, 0, 7, 4, 167, 0, 20]
abbrev dktX3_hasNext_1 : List UInt8 := dkwX3_hasNext_1 ++ dktX3_hasNext_2
def dkwX3_hasNext_0 : List UInt8 := [42, 3, 181, 0, 1, 27, 184, 1, 60, 154, 0, 17, 42, 4, 182, 0, 190, 158, 0, 7, 4, 167, 0, 4]
abbrev dktX3_hasNext_0 : List UInt8 := dkwX3_hasNext_0 ++ dktX3_hasNext_1
theorem dksX3_hasNext_0 : cX3_hasNext.data.toList.drop 0 = dktX3_hasNext_0 := by decide +kernel
theorem dksX3_hasNext_1 : cX3_hasNext.data.toList.drop 24 = dktX3_hasNext_1 := dk_seg dksX3_hasNext_0 24 rfl rfl
theorem dksX3_hasNext_2 : cX3_hasNext.data.toList.drop 48 = dktX3_hasNext_2 := dk_seg dksX3_hasNext_1 24 rfl rfl
theorem dX3_hasNext_0 : decode cX3_hasNext 0 = .ok (.aload_n 0, 1) := dk_42 (dk_at dksX3_hasNext_0 0 rfl rfl)
theorem dX3_hasNext_1 : decode cX3_hasNext 1 = .ok (.iconst 0, 1) := dk_3 (dk_at dksX3_hasNext_0 1 rfl rfl)
theorem dX3_hasNext_2 : decode cX3_hasNext 2 = .ok (.putfield 1, 3) := dk_181 0 1 (dk_at dksX3_hasNext_0 2 rfl rfl)
theorem dX3_hasNext_5 : decode cX3_hasNext 5 = .ok (.iload_n 1, 1) := dk_27 (dk_at dksX3_hasNext_0 5 rfl rfl)
theorem dX3_hasNext_6 : decode cX3_hasNext 6 = .ok (.invokestatic 316, 3) := dk_184 1 60 (dk_at dksX3_hasNext_0 6 rfl rfl)
theorem dX3_hasNext_9 : decode cX3_hasNext 9 = .ok (.ifCond .ne 17, 3) := dk_154 0 17 (dk_at dksX3_hasNext_0 9 rfl rfl)
theorem dX3_hasNext_12 : decode cX3_hasNext 12 = .ok (.aload_n 0, 1) := dk_42 (dk_at dksX3_hasNext_0 12 rfl rfl)
theorem dX3_hasNext_13 : decode cX3_hasNext 13 = .ok (.iconst 1, 1) := dk_4 (dk_at dksX3_hasNext_0 13 rfl rfl)
theorem dX3_hasNext_14 : decode cX3_hasNext 14 = .ok (.invokevirtual 190, 3) := dk_182 0 190 (dk_at dksX3_hasNext_0 14 rfl rfl)
theorem dX3_hasNext_17 : decode cX3_hasNext 17 = .ok (.ifCond .le 7, 3) := dk_158 0 7 (dk_at dksX3_hasNext_0 17 rfl rfl)
theorem dX3_hasNext_20 : decode cX3_hasNext 20 = .ok (.iconst 1, 1) := dk_4 (dk_at dksX3_hasNext_0 20 rfl rfl)
theorem dX3_hasNext_21 : decode cX3_hasNext 21 = .ok (.goto 4, 3) := dk_167 0 4 (dk_at dksX3_hasNext_0 21 rfl rfl)
theorem dX3_hasNext_24 : decode cX3_hasNext 24 = .ok (.iconst 0, 1) := dk_3 (dk_at dksX3_hasNext_1 0 rfl rfl)
theorem dX3_hasNext_25 : decode cX3_hasNext 25 = .ok (.ireturn, 1) := dk_172 (dk_at dksX3_hasNext_1 1 rfl rfl)
theorem dX3_hasNext_26 : decode cX3_hasNext 26 = .ok (.aload_n 0, 1) := dk_42 (dk_at dksX3_hasNext_1 2 rfl rfl)
theorem dX3_hasNext_27 : decode cX3_hasNext 27 = .ok (.getfield 124, 3) := dk_180 0 124 (dk_at dksX3_hasNext_1 3 rfl rfl)
theorem dX3_hasNext_30 : decode cX3_hasNext 30 = .ok (.iload_n 1, 1) := dk_27 (dk_at dksX3_hasNext_1 6 rfl rfl)
theorem dX3_hasNext_31 : decode cX3_hasNext 31 = .ok (.baload, 1) := dk_51 (dk_at dksX3_hasNext_1 7 rfl rfl)
theorem dX3_hasNext_32 : decode cX3_hasNext 32 = .ok (.ifCond .eq 20, 3) := dk_153 0 20 (dk_at dksX3_hasNext_1 8 rfl rfl)
theorem dX3_hasNext_35 : decode cX3_hasNext 35 = .ok (.aload_n 0, 1) := dk_42 (dk_at dksX3_hasNext_1 11 rfl rfl)
theorem dX3_hasNext_36 : decode cX3_hasNext 36 = .ok (.iload_n 1, 1) := dk_27 (dk_at dksX3_hasNext_1 12 rfl rfl)
theorem dX3_hasNext_37 : decode cX3_hasNext 37 = .ok (.invokevirtual 319, 3) := dk_182 1 63 (dk_at dksX3_hasNext_1 13 rfl rfl)
theorem dX3_hasNext_40 : decode cX3_hasNext 40 = .ok (.iconst (-1), 1) := dk_2 (dk_at dksX3_hasNext_1 16 rfl rfl)
theorem dX3_hasNext_41 : decode cX3_hasNext 41 = .ok (.if_icmp .eq 7, 3) := dk_159 0 7 (dk_at dksX3_hasNext_1 17 rfl rfl)
theorem dX3_hasNext_44 : decode cX3_hasNext 44 = .ok (.iconst 1, 1) := dk_4 (dk_at dksX3_hasNext_1 20 rfl rfl)
theorem dX3_hasNext_45 : decode cX3_hasNext 45 = .ok (.goto 20, 3) := dk_167 0 20 (dk_at dksX3_hasNext_1 21 rfl rfl)
theorem dX3_hasNext_48 : decode cX3_hasNext 48 = .ok (.iconst 0, 1) := dk_3 (dk_at dksX3_hasNext_2 0 rfl rfl)
theorem dX3_hasNext_49 : decode cX3_hasNext 49 = .ok (.goto 16, 3) := dk_167 0 16 (dk_at dksX3_hasNext_2 1 rfl rfl)
theorem dX3_hasNext_52 : decode cX3_hasNext 52 = .ok (.aload_n 0, 1) := dk_42 (dk_at dksX3_hasNext_2 4 rfl rfl)
theorem dX3_hasNext_53 : decode cX3_hasNext 53 = .ok (.iconst 2, 1) := dk_5 (dk_at dksX3_hasNext_2 5 rfl rfl)
theorem dX3_hasNext_54 : decode cX3_hasNext 54 = .ok (.invokevirtual 190, 3) := dk_182 0 190 (dk_at dksX3_hasNext_2 6 rfl rfl)
theorem dX3_hasNext_57 : decode cX3_hasNext 57 = .ok (.ifCond .le 7, 3) := dk_158 0 7 (dk_at dksX3_hasNext_2 9 rfl rfl)
theorem dX3_hasNext_60 : decode cX3_hasNext 60 = .ok (.iconst 1, 1) := dk_4 (dk_at dksX3_hasNext_2 12 rfl rfl)
theorem dX3_hasNext_61 : decode cX3_hasNext 61 = .ok (.goto 4, 3) := dk_167 0 4 (dk_at dksX3_hasNext_2 13 rfl rfl)
theorem dX3_hasNext_64 : decode cX3_hasNext 64 = .ok (.iconst 0, 1) := dk_3 (dk_at dksX3_hasNext_2 16 rfl rfl)
theorem dX3_hasNext_65 : decode cX3_hasNext 65 = .ok (.ireturn, 1) := dk_172 (dk_at dksX3_hasNext_2 17 rfl rfl)
abbrev cX3_next : ByteArray := prog_10_method_93_code
def yX3_next : MethodName := ⟨RX3, "next", "(I)I"⟩
def dkwX3_next_2 : List UInt8 := [182, 0, 190, 172, 42, 180, 0, 130, 27, 28, 79, 28, 172]
abbrev dktX3_next_2 : List UInt8 := dkwX3_next_2 ++ []
def dkwX3_next_1 : List UInt8 := [154, 0, 9, 42, 5, 182, 0, 190, 172, 42, 27, 182, 1, 63, 61, 28, 2, 160, 0, 9, 42, 6]
abbrev dktX3_next_1 : List UInt8 := dkwX3_next_1 ++ dktX3_next_2
def dkwX3_next_0 : List UInt8 := [42, 3, 181, 0, 1, 27, 184, 1, 60, 154, 0, 9, 42, 4, 182, 0, 190, 172, 42, 180, 0, 124, 27, 51]
abbrev dktX3_next_0 : List UInt8 := dkwX3_next_0 ++ dktX3_next_1
theorem dksX3_next_0 : cX3_next.data.toList.drop 0 = dktX3_next_0 := by decide +kernel
theorem dksX3_next_1 : cX3_next.data.toList.drop 24 = dktX3_next_1 := dk_seg dksX3_next_0 24 rfl rfl
theorem dksX3_next_2 : cX3_next.data.toList.drop 46 = dktX3_next_2 := dk_seg dksX3_next_1 22 rfl rfl
theorem dX3_next_0 : decode cX3_next 0 = .ok (.aload_n 0, 1) := dk_42 (dk_at dksX3_next_0 0 rfl rfl)
theorem dX3_next_1 : decode cX3_next 1 = .ok (.iconst 0, 1) := dk_3 (dk_at dksX3_next_0 1 rfl rfl)
theorem dX3_next_2 : decode cX3_next 2 = .ok (.putfield 1, 3) := dk_181 0 1 (dk_at dksX3_next_0 2 rfl rfl)
theorem dX3_next_5 : decode cX3_next 5 = .ok (.iload_n 1, 1) := dk_27 (dk_at dksX3_next_0 5 rfl rfl)
theorem dX3_next_6 : decode cX3_next 6 = .ok (.invokestatic 316, 3) := dk_184 1 60 (dk_at dksX3_next_0 6 rfl rfl)
theorem dX3_next_9 : decode cX3_next 9 = .ok (.ifCond .ne 9, 3) := dk_154 0 9 (dk_at dksX3_next_0 9 rfl rfl)
theorem dX3_next_12 : decode cX3_next 12 = .ok (.aload_n 0, 1) := dk_42 (dk_at dksX3_next_0 12 rfl rfl)
theorem dX3_next_13 : decode cX3_next 13 = .ok (.iconst 1, 1) := dk_4 (dk_at dksX3_next_0 13 rfl rfl)
theorem dX3_next_14 : decode cX3_next 14 = .ok (.invokevirtual 190, 3) := dk_182 0 190 (dk_at dksX3_next_0 14 rfl rfl)
theorem dX3_next_17 : decode cX3_next 17 = .ok (.ireturn, 1) := dk_172 (dk_at dksX3_next_0 17 rfl rfl)
theorem dX3_next_18 : decode cX3_next 18 = .ok (.aload_n 0, 1) := dk_42 (dk_at dksX3_next_0 18 rfl rfl)
theorem dX3_next_19 : decode cX3_next 19 = .ok (.getfield 124, 3) := dk_180 0 124 (dk_at dksX3_next_0 19 rfl rfl)
theorem dX3_next_22 : decode cX3_next 22 = .ok (.iload_n 1, 1) := dk_27 (dk_at dksX3_next_0 22 rfl rfl)
theorem dX3_next_23 : decode cX3_next 23 = .ok (.baload, 1) := dk_51 (dk_at dksX3_next_0 23 rfl rfl)
theorem dX3_next_24 : decode cX3_next 24 = .ok (.ifCond .ne 9, 3) := dk_154 0 9 (dk_at dksX3_next_1 0 rfl rfl)
theorem dX3_next_27 : decode cX3_next 27 = .ok (.aload_n 0, 1) := dk_42 (dk_at dksX3_next_1 3 rfl rfl)
theorem dX3_next_28 : decode cX3_next 28 = .ok (.iconst 2, 1) := dk_5 (dk_at dksX3_next_1 4 rfl rfl)
theorem dX3_next_29 : decode cX3_next 29 = .ok (.invokevirtual 190, 3) := dk_182 0 190 (dk_at dksX3_next_1 5 rfl rfl)
theorem dX3_next_32 : decode cX3_next 32 = .ok (.ireturn, 1) := dk_172 (dk_at dksX3_next_1 8 rfl rfl)
theorem dX3_next_33 : decode cX3_next 33 = .ok (.aload_n 0, 1) := dk_42 (dk_at dksX3_next_1 9 rfl rfl)
theorem dX3_next_34 : decode cX3_next 34 = .ok (.iload_n 1, 1) := dk_27 (dk_at dksX3_next_1 10 rfl rfl)
theorem dX3_next_35 : decode cX3_next 35 = .ok (.invokevirtual 319, 3) := dk_182 1 63 (dk_at dksX3_next_1 11 rfl rfl)
theorem dX3_next_38 : decode cX3_next 38 = .ok (.istore_n 2, 1) := dk_61 (dk_at dksX3_next_1 14 rfl rfl)
theorem dX3_next_39 : decode cX3_next 39 = .ok (.iload_n 2, 1) := dk_28 (dk_at dksX3_next_1 15 rfl rfl)
theorem dX3_next_40 : decode cX3_next 40 = .ok (.iconst (-1), 1) := dk_2 (dk_at dksX3_next_1 16 rfl rfl)
theorem dX3_next_41 : decode cX3_next 41 = .ok (.if_icmp .ne 9, 3) := dk_160 0 9 (dk_at dksX3_next_1 17 rfl rfl)
theorem dX3_next_44 : decode cX3_next 44 = .ok (.aload_n 0, 1) := dk_42 (dk_at dksX3_next_1 20 rfl rfl)
theorem dX3_next_45 : decode cX3_next 45 = .ok (.iconst 3, 1) := dk_6 (dk_at dksX3_next_1 21 rfl rfl)
theorem dX3_next_46 : decode cX3_next 46 = .ok (.invokevirtual 190, 3) := dk_182 0 190 (dk_at dksX3_next_2 0 rfl rfl)
theorem dX3_next_49 : decode cX3_next 49 = .ok (.ireturn, 1) := dk_172 (dk_at dksX3_next_2 3 rfl rfl)
theorem dX3_next_50 : decode cX3_next 50 = .ok (.aload_n 0, 1) := dk_42 (dk_at dksX3_next_2 4 rfl rfl)
theorem dX3_next_51 : decode cX3_next 51 = .ok (.getfield 130, 3) := dk_180 0 130 (dk_at dksX3_next_2 5 rfl rfl)
theorem dX3_next_54 : decode cX3_next 54 = .ok (.iload_n 1, 1) := dk_27 (dk_at dksX3_next_2 8 rfl rfl)
theorem dX3_next_55 : decode cX3_next 55 = .ok (.iload_n 2, 1) := dk_28 (dk_at dksX3_next_2 9 rfl rfl)
theorem dX3_next_56 : decode cX3_next 56 = .ok (.iastore, 1) := dk_79 (dk_at dksX3_next_2 10 rfl rfl)
theorem dX3_next_57 : decode cX3_next 57 = .ok (.iload_n 2, 1) := dk_28 (dk_at dksX3_next_2 11 rfl rfl)
theorem dX3_next_58 : decode cX3_next 58 = .ok (.ireturn, 1) := dk_172 (dk_at dksX3_next_2 12 rfl rfl)
abbrev cX3_removeCurrent : ByteArray := prog_10_method_94_code
def yX3_removeCurrent : MethodName := ⟨RX3, "removeCurrent", "(I)I"⟩
def dkwX3_removeCurrent_2 : List UInt8 := [153, 0, 9, 42, 5, 182, 0, 190, 172, 42, 42, 180, 0, 130, 27, 46, 182, 0, 209, 172]
abbrev dktX3_removeCurrent_2 : List UInt8 := dkwX3_removeCurrent_2 ++ []
def dkwX3_removeCurrent_1 : List UInt8 := [153, 0, 27, 42, 180, 0, 130, 27, 46, 2, 159, 0, 17, 42, 180, 0, 23, 42, 180, 0, 130, 27, 46, 46]
abbrev dktX3_removeCurrent_1 : List UInt8 := dkwX3_removeCurrent_1 ++ dktX3_removeCurrent_2
def dkwX3_removeCurrent_0 : List UInt8 := [42, 3, 181, 0, 1, 27, 184, 1, 60, 154, 0, 9, 42, 4, 182, 0, 190, 172, 42, 180, 0, 124, 27, 51]
abbrev dktX3_removeCurrent_0 : List UInt8 := dkwX3_removeCurrent_0 ++ dktX3_removeCurrent_1
theorem dksX3_removeCurrent_0 : cX3_removeCurrent.data.toList.drop 0 = dktX3_removeCurrent_0 := by decide +kernel
theorem dksX3_removeCurrent_1 : cX3_removeCurrent.data.toList.drop 24 = dktX3_removeCurrent_1 := dk_seg dksX3_removeCurrent_0 24 rfl rfl
theorem dksX3_removeCurrent_2 : cX3_removeCurrent.data.toList.drop 48 = dktX3_removeCurrent_2 := dk_seg dksX3_removeCurrent_1 24 rfl rfl
theorem dX3_removeCurrent_0 : decode cX3_removeCurrent 0 = .ok (.aload_n 0, 1) := dk_42 (dk_at dksX3_removeCurrent_0 0 rfl rfl)
theorem dX3_removeCurrent_1 : decode cX3_removeCurrent 1 = .ok (.iconst 0, 1) := dk_3 (dk_at dksX3_removeCurrent_0 1 rfl rfl)
theorem dX3_removeCurrent_2 : decode cX3_removeCurrent 2 = .ok (.putfield 1, 3) := dk_181 0 1 (dk_at dksX3_removeCurrent_0 2 rfl rfl)
theorem dX3_removeCurrent_5 : decode cX3_removeCurrent 5 = .ok (.iload_n 1, 1) := dk_27 (dk_at dksX3_removeCurrent_0 5 rfl rfl)
theorem dX3_removeCurrent_6 : decode cX3_removeCurrent 6 = .ok (.invokestatic 316, 3) := dk_184 1 60 (dk_at dksX3_removeCurrent_0 6 rfl rfl)
theorem dX3_removeCurrent_9 : decode cX3_removeCurrent 9 = .ok (.ifCond .ne 9, 3) := dk_154 0 9 (dk_at dksX3_removeCurrent_0 9 rfl rfl)
theorem dX3_removeCurrent_12 : decode cX3_removeCurrent 12 = .ok (.aload_n 0, 1) := dk_42 (dk_at dksX3_removeCurrent_0 12 rfl rfl)
theorem dX3_removeCurrent_13 : decode cX3_removeCurrent 13 = .ok (.iconst 1, 1) := dk_4 (dk_at dksX3_removeCurrent_0 13 rfl rfl)
theorem dX3_removeCurrent_14 : decode cX3_removeCurrent 14 = .ok (.invokevirtual 190, 3) := dk_182 0 190 (dk_at dksX3_removeCurrent_0 14 rfl rfl)
theorem dX3_removeCurrent_17 : decode cX3_removeCurrent 17 = .ok (.ireturn, 1) := dk_172 (dk_at dksX3_removeCurrent_0 17 rfl rfl)
theorem dX3_removeCurrent_18 : decode cX3_removeCurrent 18 = .ok (.aload_n 0, 1) := dk_42 (dk_at dksX3_removeCurrent_0 18 rfl rfl)
theorem dX3_removeCurrent_19 : decode cX3_removeCurrent 19 = .ok (.getfield 124, 3) := dk_180 0 124 (dk_at dksX3_removeCurrent_0 19 rfl rfl)
theorem dX3_removeCurrent_22 : decode cX3_removeCurrent 22 = .ok (.iload_n 1, 1) := dk_27 (dk_at dksX3_removeCurrent_0 22 rfl rfl)
theorem dX3_removeCurrent_23 : decode cX3_removeCurrent 23 = .ok (.baload, 1) := dk_51 (dk_at dksX3_removeCurrent_0 23 rfl rfl)
theorem dX3_removeCurrent_24 : decode cX3_removeCurrent 24 = .ok (.ifCond .eq 27, 3) := dk_153 0 27 (dk_at dksX3_removeCurrent_1 0 rfl rfl)
theorem dX3_removeCurrent_27 : decode cX3_removeCurrent 27 = .ok (.aload_n 0, 1) := dk_42 (dk_at dksX3_removeCurrent_1 3 rfl rfl)
theorem dX3_removeCurrent_28 : decode cX3_removeCurrent 28 = .ok (.getfield 130, 3) := dk_180 0 130 (dk_at dksX3_removeCurrent_1 4 rfl rfl)
theorem dX3_removeCurrent_31 : decode cX3_removeCurrent 31 = .ok (.iload_n 1, 1) := dk_27 (dk_at dksX3_removeCurrent_1 7 rfl rfl)
theorem dX3_removeCurrent_32 : decode cX3_removeCurrent 32 = .ok (.iaload, 1) := dk_46 (dk_at dksX3_removeCurrent_1 8 rfl rfl)
theorem dX3_removeCurrent_33 : decode cX3_removeCurrent 33 = .ok (.iconst (-1), 1) := dk_2 (dk_at dksX3_removeCurrent_1 9 rfl rfl)
theorem dX3_removeCurrent_34 : decode cX3_removeCurrent 34 = .ok (.if_icmp .eq 17, 3) := dk_159 0 17 (dk_at dksX3_removeCurrent_1 10 rfl rfl)
theorem dX3_removeCurrent_37 : decode cX3_removeCurrent 37 = .ok (.aload_n 0, 1) := dk_42 (dk_at dksX3_removeCurrent_1 13 rfl rfl)
theorem dX3_removeCurrent_38 : decode cX3_removeCurrent 38 = .ok (.getfield 23, 3) := dk_180 0 23 (dk_at dksX3_removeCurrent_1 14 rfl rfl)
theorem dX3_removeCurrent_41 : decode cX3_removeCurrent 41 = .ok (.aload_n 0, 1) := dk_42 (dk_at dksX3_removeCurrent_1 17 rfl rfl)
theorem dX3_removeCurrent_42 : decode cX3_removeCurrent 42 = .ok (.getfield 130, 3) := dk_180 0 130 (dk_at dksX3_removeCurrent_1 18 rfl rfl)
theorem dX3_removeCurrent_45 : decode cX3_removeCurrent 45 = .ok (.iload_n 1, 1) := dk_27 (dk_at dksX3_removeCurrent_1 21 rfl rfl)
theorem dX3_removeCurrent_46 : decode cX3_removeCurrent 46 = .ok (.iaload, 1) := dk_46 (dk_at dksX3_removeCurrent_1 22 rfl rfl)
theorem dX3_removeCurrent_47 : decode cX3_removeCurrent 47 = .ok (.iaload, 1) := dk_46 (dk_at dksX3_removeCurrent_1 23 rfl rfl)
theorem dX3_removeCurrent_48 : decode cX3_removeCurrent 48 = .ok (.ifCond .eq 9, 3) := dk_153 0 9 (dk_at dksX3_removeCurrent_2 0 rfl rfl)
theorem dX3_removeCurrent_51 : decode cX3_removeCurrent 51 = .ok (.aload_n 0, 1) := dk_42 (dk_at dksX3_removeCurrent_2 3 rfl rfl)
theorem dX3_removeCurrent_52 : decode cX3_removeCurrent 52 = .ok (.iconst 2, 1) := dk_5 (dk_at dksX3_removeCurrent_2 4 rfl rfl)
theorem dX3_removeCurrent_53 : decode cX3_removeCurrent 53 = .ok (.invokevirtual 190, 3) := dk_182 0 190 (dk_at dksX3_removeCurrent_2 5 rfl rfl)
theorem dX3_removeCurrent_56 : decode cX3_removeCurrent 56 = .ok (.ireturn, 1) := dk_172 (dk_at dksX3_removeCurrent_2 8 rfl rfl)
theorem dX3_removeCurrent_57 : decode cX3_removeCurrent 57 = .ok (.aload_n 0, 1) := dk_42 (dk_at dksX3_removeCurrent_2 9 rfl rfl)
theorem dX3_removeCurrent_58 : decode cX3_removeCurrent 58 = .ok (.aload_n 0, 1) := dk_42 (dk_at dksX3_removeCurrent_2 10 rfl rfl)
theorem dX3_removeCurrent_59 : decode cX3_removeCurrent 59 = .ok (.getfield 130, 3) := dk_180 0 130 (dk_at dksX3_removeCurrent_2 11 rfl rfl)
theorem dX3_removeCurrent_62 : decode cX3_removeCurrent 62 = .ok (.iload_n 1, 1) := dk_27 (dk_at dksX3_removeCurrent_2 14 rfl rfl)
theorem dX3_removeCurrent_63 : decode cX3_removeCurrent 63 = .ok (.iaload, 1) := dk_46 (dk_at dksX3_removeCurrent_2 15 rfl rfl)
theorem dX3_removeCurrent_64 : decode cX3_removeCurrent 64 = .ok (.invokevirtual 209, 3) := dk_182 0 209 (dk_at dksX3_removeCurrent_2 16 rfl rfl)
theorem dX3_removeCurrent_67 : decode cX3_removeCurrent 67 = .ok (.ireturn, 1) := dk_172 (dk_at dksX3_removeCurrent_2 19 rfl rfl)
abbrev cX3_save : ByteArray := prog_10_method_95_code
def yX3_save : MethodName := ⟨RX3, "save", "()I"⟩
def dkwX3_save_8 : List UInt8 := [182, 0, 202, 172]
abbrev dktX3_save_8 : List UInt8 := dkwX3_save_8 ++ []
def dkwX3_save_7 : List UInt8 := [42, 180, 0, 157, 8, 42, 180, 0, 54, 79, 42, 180, 0, 157, 16, 6, 42, 180, 0, 57, 79, 42]
abbrev dktX3_save_7 : List UInt8 := dkwX3_save_7 ++ dktX3_save_8
def dkwX3_save_6 : List UInt8 := [180, 0, 45, 79, 42, 180, 0, 157, 6, 42, 180, 0, 48, 79, 42, 180, 0, 157, 7, 42, 180, 0, 51, 79]
abbrev dktX3_save_6 : List UInt8 := dkwX3_save_6 ++ dktX3_save_7
def dkwX3_save_5 : List UInt8 := [3, 42, 180, 0, 39, 79, 42, 180, 0, 157, 4, 42, 180, 0, 42, 79, 42, 180, 0, 157, 5, 42]
abbrev dktX3_save_5 : List UInt8 := dkwX3_save_5 ++ dktX3_save_6
def dkwX3_save_4 : List UInt8 := [46, 79, 42, 180, 0, 160, 27, 42, 180, 0, 35, 27, 51, 84, 132, 1, 1, 167, 255, 150, 42, 180, 0, 157]
abbrev dktX3_save_4 : List UInt8 := dkwX3_save_4 ++ dktX3_save_5
def dkwX3_save_3 : List UInt8 := [46, 79, 42, 180, 0, 151, 27, 42, 180, 0, 29, 27, 46, 79, 42, 180, 0, 154, 27, 42, 180, 0, 32, 27]
abbrev dktX3_save_3 : List UInt8 := dkwX3_save_3 ++ dktX3_save_4
def dkwX3_save_2 : List UInt8 := [46, 79, 42, 180, 0, 145, 27, 42, 180, 0, 23, 27, 46, 79, 42, 180, 0, 148, 27, 42, 180, 0, 26, 27]
abbrev dktX3_save_2 : List UInt8 := dkwX3_save_2 ++ dktX3_save_3
def dkwX3_save_1 : List UInt8 := [46, 79, 42, 180, 0, 139, 27, 42, 180, 0, 17, 27, 46, 79, 42, 180, 0, 142, 27, 42, 180, 0, 20, 27]
abbrev dktX3_save_1 : List UInt8 := dkwX3_save_1 ++ dktX3_save_2
def dkwX3_save_0 : List UInt8 := [42, 4, 181, 0, 133, 3, 60, 27, 17, 1, 244, 162, 0, 105, 42, 180, 0, 136, 27, 42, 180, 0, 13, 27]
abbrev dktX3_save_0 : List UInt8 := dkwX3_save_0 ++ dktX3_save_1
theorem dksX3_save_0 : cX3_save.data.toList.drop 0 = dktX3_save_0 := by decide +kernel
theorem dksX3_save_1 : cX3_save.data.toList.drop 24 = dktX3_save_1 := dk_seg dksX3_save_0 24 rfl rfl
theorem dksX3_save_2 : cX3_save.data.toList.drop 48 = dktX3_save_2 := dk_seg dksX3_save_1 24 rfl rfl
theorem dksX3_save_3 : cX3_save.data.toList.drop 72 = dktX3_save_3 := dk_seg dksX3_save_2 24 rfl rfl
theorem dksX3_save_4 : cX3_save.data.toList.drop 96 = dktX3_save_4 := dk_seg dksX3_save_3 24 rfl rfl
theorem dksX3_save_5 : cX3_save.data.toList.drop 120 = dktX3_save_5 := dk_seg dksX3_save_4 24 rfl rfl
theorem dksX3_save_6 : cX3_save.data.toList.drop 142 = dktX3_save_6 := dk_seg dksX3_save_5 22 rfl rfl
theorem dksX3_save_7 : cX3_save.data.toList.drop 166 = dktX3_save_7 := dk_seg dksX3_save_6 24 rfl rfl
theorem dksX3_save_8 : cX3_save.data.toList.drop 188 = dktX3_save_8 := dk_seg dksX3_save_7 22 rfl rfl
theorem dX3_save_0 : decode cX3_save 0 = .ok (.aload_n 0, 1) := dk_42 (dk_at dksX3_save_0 0 rfl rfl)
theorem dX3_save_1 : decode cX3_save 1 = .ok (.iconst 1, 1) := dk_4 (dk_at dksX3_save_0 1 rfl rfl)
theorem dX3_save_2 : decode cX3_save 2 = .ok (.putfield 133, 3) := dk_181 0 133 (dk_at dksX3_save_0 2 rfl rfl)
theorem dX3_save_5 : decode cX3_save 5 = .ok (.iconst 0, 1) := dk_3 (dk_at dksX3_save_0 5 rfl rfl)
theorem dX3_save_6 : decode cX3_save 6 = .ok (.istore_n 1, 1) := dk_60 (dk_at dksX3_save_0 6 rfl rfl)
theorem dX3_save_7 : decode cX3_save 7 = .ok (.iload_n 1, 1) := dk_27 (dk_at dksX3_save_0 7 rfl rfl)
theorem dX3_save_8 : decode cX3_save 8 = .ok (.sipush 500, 3) := dk_17 1 244 (dk_at dksX3_save_0 8 rfl rfl)
theorem dX3_save_11 : decode cX3_save 11 = .ok (.if_icmp .ge 105, 3) := dk_162 0 105 (dk_at dksX3_save_0 11 rfl rfl)
theorem dX3_save_14 : decode cX3_save 14 = .ok (.aload_n 0, 1) := dk_42 (dk_at dksX3_save_0 14 rfl rfl)
theorem dX3_save_15 : decode cX3_save 15 = .ok (.getfield 136, 3) := dk_180 0 136 (dk_at dksX3_save_0 15 rfl rfl)
theorem dX3_save_18 : decode cX3_save 18 = .ok (.iload_n 1, 1) := dk_27 (dk_at dksX3_save_0 18 rfl rfl)
theorem dX3_save_19 : decode cX3_save 19 = .ok (.aload_n 0, 1) := dk_42 (dk_at dksX3_save_0 19 rfl rfl)
theorem dX3_save_20 : decode cX3_save 20 = .ok (.getfield 13, 3) := dk_180 0 13 (dk_at dksX3_save_0 20 rfl rfl)
theorem dX3_save_23 : decode cX3_save 23 = .ok (.iload_n 1, 1) := dk_27 (dk_at dksX3_save_0 23 rfl rfl)
theorem dX3_save_24 : decode cX3_save 24 = .ok (.iaload, 1) := dk_46 (dk_at dksX3_save_1 0 rfl rfl)
theorem dX3_save_25 : decode cX3_save 25 = .ok (.iastore, 1) := dk_79 (dk_at dksX3_save_1 1 rfl rfl)
theorem dX3_save_26 : decode cX3_save 26 = .ok (.aload_n 0, 1) := dk_42 (dk_at dksX3_save_1 2 rfl rfl)
theorem dX3_save_27 : decode cX3_save 27 = .ok (.getfield 139, 3) := dk_180 0 139 (dk_at dksX3_save_1 3 rfl rfl)
theorem dX3_save_30 : decode cX3_save 30 = .ok (.iload_n 1, 1) := dk_27 (dk_at dksX3_save_1 6 rfl rfl)
theorem dX3_save_31 : decode cX3_save 31 = .ok (.aload_n 0, 1) := dk_42 (dk_at dksX3_save_1 7 rfl rfl)
theorem dX3_save_32 : decode cX3_save 32 = .ok (.getfield 17, 3) := dk_180 0 17 (dk_at dksX3_save_1 8 rfl rfl)
theorem dX3_save_35 : decode cX3_save 35 = .ok (.iload_n 1, 1) := dk_27 (dk_at dksX3_save_1 11 rfl rfl)
theorem dX3_save_36 : decode cX3_save 36 = .ok (.iaload, 1) := dk_46 (dk_at dksX3_save_1 12 rfl rfl)
theorem dX3_save_37 : decode cX3_save 37 = .ok (.iastore, 1) := dk_79 (dk_at dksX3_save_1 13 rfl rfl)
theorem dX3_save_38 : decode cX3_save 38 = .ok (.aload_n 0, 1) := dk_42 (dk_at dksX3_save_1 14 rfl rfl)
theorem dX3_save_39 : decode cX3_save 39 = .ok (.getfield 142, 3) := dk_180 0 142 (dk_at dksX3_save_1 15 rfl rfl)
theorem dX3_save_42 : decode cX3_save 42 = .ok (.iload_n 1, 1) := dk_27 (dk_at dksX3_save_1 18 rfl rfl)
theorem dX3_save_43 : decode cX3_save 43 = .ok (.aload_n 0, 1) := dk_42 (dk_at dksX3_save_1 19 rfl rfl)
theorem dX3_save_44 : decode cX3_save 44 = .ok (.getfield 20, 3) := dk_180 0 20 (dk_at dksX3_save_1 20 rfl rfl)
theorem dX3_save_47 : decode cX3_save 47 = .ok (.iload_n 1, 1) := dk_27 (dk_at dksX3_save_1 23 rfl rfl)
theorem dX3_save_48 : decode cX3_save 48 = .ok (.iaload, 1) := dk_46 (dk_at dksX3_save_2 0 rfl rfl)
theorem dX3_save_49 : decode cX3_save 49 = .ok (.iastore, 1) := dk_79 (dk_at dksX3_save_2 1 rfl rfl)
theorem dX3_save_50 : decode cX3_save 50 = .ok (.aload_n 0, 1) := dk_42 (dk_at dksX3_save_2 2 rfl rfl)
theorem dX3_save_51 : decode cX3_save 51 = .ok (.getfield 145, 3) := dk_180 0 145 (dk_at dksX3_save_2 3 rfl rfl)
theorem dX3_save_54 : decode cX3_save 54 = .ok (.iload_n 1, 1) := dk_27 (dk_at dksX3_save_2 6 rfl rfl)
theorem dX3_save_55 : decode cX3_save 55 = .ok (.aload_n 0, 1) := dk_42 (dk_at dksX3_save_2 7 rfl rfl)
theorem dX3_save_56 : decode cX3_save 56 = .ok (.getfield 23, 3) := dk_180 0 23 (dk_at dksX3_save_2 8 rfl rfl)
theorem dX3_save_59 : decode cX3_save 59 = .ok (.iload_n 1, 1) := dk_27 (dk_at dksX3_save_2 11 rfl rfl)
theorem dX3_save_60 : decode cX3_save 60 = .ok (.iaload, 1) := dk_46 (dk_at dksX3_save_2 12 rfl rfl)
theorem dX3_save_61 : decode cX3_save 61 = .ok (.iastore, 1) := dk_79 (dk_at dksX3_save_2 13 rfl rfl)
theorem dX3_save_62 : decode cX3_save 62 = .ok (.aload_n 0, 1) := dk_42 (dk_at dksX3_save_2 14 rfl rfl)
theorem dX3_save_63 : decode cX3_save 63 = .ok (.getfield 148, 3) := dk_180 0 148 (dk_at dksX3_save_2 15 rfl rfl)
theorem dX3_save_66 : decode cX3_save 66 = .ok (.iload_n 1, 1) := dk_27 (dk_at dksX3_save_2 18 rfl rfl)
theorem dX3_save_67 : decode cX3_save 67 = .ok (.aload_n 0, 1) := dk_42 (dk_at dksX3_save_2 19 rfl rfl)
theorem dX3_save_68 : decode cX3_save 68 = .ok (.getfield 26, 3) := dk_180 0 26 (dk_at dksX3_save_2 20 rfl rfl)
theorem dX3_save_71 : decode cX3_save 71 = .ok (.iload_n 1, 1) := dk_27 (dk_at dksX3_save_2 23 rfl rfl)
theorem dX3_save_72 : decode cX3_save 72 = .ok (.iaload, 1) := dk_46 (dk_at dksX3_save_3 0 rfl rfl)
theorem dX3_save_73 : decode cX3_save 73 = .ok (.iastore, 1) := dk_79 (dk_at dksX3_save_3 1 rfl rfl)
theorem dX3_save_74 : decode cX3_save 74 = .ok (.aload_n 0, 1) := dk_42 (dk_at dksX3_save_3 2 rfl rfl)
theorem dX3_save_75 : decode cX3_save 75 = .ok (.getfield 151, 3) := dk_180 0 151 (dk_at dksX3_save_3 3 rfl rfl)
theorem dX3_save_78 : decode cX3_save 78 = .ok (.iload_n 1, 1) := dk_27 (dk_at dksX3_save_3 6 rfl rfl)
theorem dX3_save_79 : decode cX3_save 79 = .ok (.aload_n 0, 1) := dk_42 (dk_at dksX3_save_3 7 rfl rfl)
theorem dX3_save_80 : decode cX3_save 80 = .ok (.getfield 29, 3) := dk_180 0 29 (dk_at dksX3_save_3 8 rfl rfl)
theorem dX3_save_83 : decode cX3_save 83 = .ok (.iload_n 1, 1) := dk_27 (dk_at dksX3_save_3 11 rfl rfl)
theorem dX3_save_84 : decode cX3_save 84 = .ok (.iaload, 1) := dk_46 (dk_at dksX3_save_3 12 rfl rfl)
theorem dX3_save_85 : decode cX3_save 85 = .ok (.iastore, 1) := dk_79 (dk_at dksX3_save_3 13 rfl rfl)
theorem dX3_save_86 : decode cX3_save 86 = .ok (.aload_n 0, 1) := dk_42 (dk_at dksX3_save_3 14 rfl rfl)
theorem dX3_save_87 : decode cX3_save 87 = .ok (.getfield 154, 3) := dk_180 0 154 (dk_at dksX3_save_3 15 rfl rfl)
theorem dX3_save_90 : decode cX3_save 90 = .ok (.iload_n 1, 1) := dk_27 (dk_at dksX3_save_3 18 rfl rfl)
theorem dX3_save_91 : decode cX3_save 91 = .ok (.aload_n 0, 1) := dk_42 (dk_at dksX3_save_3 19 rfl rfl)
theorem dX3_save_92 : decode cX3_save 92 = .ok (.getfield 32, 3) := dk_180 0 32 (dk_at dksX3_save_3 20 rfl rfl)
theorem dX3_save_95 : decode cX3_save 95 = .ok (.iload_n 1, 1) := dk_27 (dk_at dksX3_save_3 23 rfl rfl)
theorem dX3_save_96 : decode cX3_save 96 = .ok (.iaload, 1) := dk_46 (dk_at dksX3_save_4 0 rfl rfl)
theorem dX3_save_97 : decode cX3_save 97 = .ok (.iastore, 1) := dk_79 (dk_at dksX3_save_4 1 rfl rfl)
theorem dX3_save_98 : decode cX3_save 98 = .ok (.aload_n 0, 1) := dk_42 (dk_at dksX3_save_4 2 rfl rfl)
theorem dX3_save_99 : decode cX3_save 99 = .ok (.getfield 160, 3) := dk_180 0 160 (dk_at dksX3_save_4 3 rfl rfl)
theorem dX3_save_102 : decode cX3_save 102 = .ok (.iload_n 1, 1) := dk_27 (dk_at dksX3_save_4 6 rfl rfl)
theorem dX3_save_103 : decode cX3_save 103 = .ok (.aload_n 0, 1) := dk_42 (dk_at dksX3_save_4 7 rfl rfl)
theorem dX3_save_104 : decode cX3_save 104 = .ok (.getfield 35, 3) := dk_180 0 35 (dk_at dksX3_save_4 8 rfl rfl)
theorem dX3_save_107 : decode cX3_save 107 = .ok (.iload_n 1, 1) := dk_27 (dk_at dksX3_save_4 11 rfl rfl)
theorem dX3_save_108 : decode cX3_save 108 = .ok (.baload, 1) := dk_51 (dk_at dksX3_save_4 12 rfl rfl)
theorem dX3_save_109 : decode cX3_save 109 = .ok (.bastore, 1) := dk_84 (dk_at dksX3_save_4 13 rfl rfl)
theorem dX3_save_110 : decode cX3_save 110 = .ok (.iinc 1 1, 3) := dk_132 1 1 (dk_at dksX3_save_4 14 rfl rfl)
theorem dX3_save_113 : decode cX3_save 113 = .ok (.goto (-106), 3) := dk_167 255 150 (dk_at dksX3_save_4 17 rfl rfl)
theorem dX3_save_116 : decode cX3_save 116 = .ok (.aload_n 0, 1) := dk_42 (dk_at dksX3_save_4 20 rfl rfl)
theorem dX3_save_117 : decode cX3_save 117 = .ok (.getfield 157, 3) := dk_180 0 157 (dk_at dksX3_save_4 21 rfl rfl)
theorem dX3_save_120 : decode cX3_save 120 = .ok (.iconst 0, 1) := dk_3 (dk_at dksX3_save_5 0 rfl rfl)
theorem dX3_save_121 : decode cX3_save 121 = .ok (.aload_n 0, 1) := dk_42 (dk_at dksX3_save_5 1 rfl rfl)
theorem dX3_save_122 : decode cX3_save 122 = .ok (.getfield 39, 3) := dk_180 0 39 (dk_at dksX3_save_5 2 rfl rfl)
theorem dX3_save_125 : decode cX3_save 125 = .ok (.iastore, 1) := dk_79 (dk_at dksX3_save_5 5 rfl rfl)
theorem dX3_save_126 : decode cX3_save 126 = .ok (.aload_n 0, 1) := dk_42 (dk_at dksX3_save_5 6 rfl rfl)
theorem dX3_save_127 : decode cX3_save 127 = .ok (.getfield 157, 3) := dk_180 0 157 (dk_at dksX3_save_5 7 rfl rfl)
theorem dX3_save_130 : decode cX3_save 130 = .ok (.iconst 1, 1) := dk_4 (dk_at dksX3_save_5 10 rfl rfl)
theorem dX3_save_131 : decode cX3_save 131 = .ok (.aload_n 0, 1) := dk_42 (dk_at dksX3_save_5 11 rfl rfl)
theorem dX3_save_132 : decode cX3_save 132 = .ok (.getfield 42, 3) := dk_180 0 42 (dk_at dksX3_save_5 12 rfl rfl)
theorem dX3_save_135 : decode cX3_save 135 = .ok (.iastore, 1) := dk_79 (dk_at dksX3_save_5 15 rfl rfl)
theorem dX3_save_136 : decode cX3_save 136 = .ok (.aload_n 0, 1) := dk_42 (dk_at dksX3_save_5 16 rfl rfl)
theorem dX3_save_137 : decode cX3_save 137 = .ok (.getfield 157, 3) := dk_180 0 157 (dk_at dksX3_save_5 17 rfl rfl)
theorem dX3_save_140 : decode cX3_save 140 = .ok (.iconst 2, 1) := dk_5 (dk_at dksX3_save_5 20 rfl rfl)
theorem dX3_save_141 : decode cX3_save 141 = .ok (.aload_n 0, 1) := dk_42 (dk_at dksX3_save_5 21 rfl rfl)
theorem dX3_save_142 : decode cX3_save 142 = .ok (.getfield 45, 3) := dk_180 0 45 (dk_at dksX3_save_6 0 rfl rfl)
theorem dX3_save_145 : decode cX3_save 145 = .ok (.iastore, 1) := dk_79 (dk_at dksX3_save_6 3 rfl rfl)
theorem dX3_save_146 : decode cX3_save 146 = .ok (.aload_n 0, 1) := dk_42 (dk_at dksX3_save_6 4 rfl rfl)
theorem dX3_save_147 : decode cX3_save 147 = .ok (.getfield 157, 3) := dk_180 0 157 (dk_at dksX3_save_6 5 rfl rfl)
theorem dX3_save_150 : decode cX3_save 150 = .ok (.iconst 3, 1) := dk_6 (dk_at dksX3_save_6 8 rfl rfl)
theorem dX3_save_151 : decode cX3_save 151 = .ok (.aload_n 0, 1) := dk_42 (dk_at dksX3_save_6 9 rfl rfl)
theorem dX3_save_152 : decode cX3_save 152 = .ok (.getfield 48, 3) := dk_180 0 48 (dk_at dksX3_save_6 10 rfl rfl)
theorem dX3_save_155 : decode cX3_save 155 = .ok (.iastore, 1) := dk_79 (dk_at dksX3_save_6 13 rfl rfl)
theorem dX3_save_156 : decode cX3_save 156 = .ok (.aload_n 0, 1) := dk_42 (dk_at dksX3_save_6 14 rfl rfl)
theorem dX3_save_157 : decode cX3_save 157 = .ok (.getfield 157, 3) := dk_180 0 157 (dk_at dksX3_save_6 15 rfl rfl)
theorem dX3_save_160 : decode cX3_save 160 = .ok (.iconst 4, 1) := dk_7 (dk_at dksX3_save_6 18 rfl rfl)
theorem dX3_save_161 : decode cX3_save 161 = .ok (.aload_n 0, 1) := dk_42 (dk_at dksX3_save_6 19 rfl rfl)
theorem dX3_save_162 : decode cX3_save 162 = .ok (.getfield 51, 3) := dk_180 0 51 (dk_at dksX3_save_6 20 rfl rfl)
theorem dX3_save_165 : decode cX3_save 165 = .ok (.iastore, 1) := dk_79 (dk_at dksX3_save_6 23 rfl rfl)
theorem dX3_save_166 : decode cX3_save 166 = .ok (.aload_n 0, 1) := dk_42 (dk_at dksX3_save_7 0 rfl rfl)
theorem dX3_save_167 : decode cX3_save 167 = .ok (.getfield 157, 3) := dk_180 0 157 (dk_at dksX3_save_7 1 rfl rfl)
theorem dX3_save_170 : decode cX3_save 170 = .ok (.iconst 5, 1) := dk_8 (dk_at dksX3_save_7 4 rfl rfl)
theorem dX3_save_171 : decode cX3_save 171 = .ok (.aload_n 0, 1) := dk_42 (dk_at dksX3_save_7 5 rfl rfl)
theorem dX3_save_172 : decode cX3_save 172 = .ok (.getfield 54, 3) := dk_180 0 54 (dk_at dksX3_save_7 6 rfl rfl)
theorem dX3_save_175 : decode cX3_save 175 = .ok (.iastore, 1) := dk_79 (dk_at dksX3_save_7 9 rfl rfl)
theorem dX3_save_176 : decode cX3_save 176 = .ok (.aload_n 0, 1) := dk_42 (dk_at dksX3_save_7 10 rfl rfl)
theorem dX3_save_177 : decode cX3_save 177 = .ok (.getfield 157, 3) := dk_180 0 157 (dk_at dksX3_save_7 11 rfl rfl)
theorem dX3_save_180 : decode cX3_save 180 = .ok (.bipush 6, 2) := dk_16 6 (dk_at dksX3_save_7 14 rfl rfl)
theorem dX3_save_182 : decode cX3_save 182 = .ok (.aload_n 0, 1) := dk_42 (dk_at dksX3_save_7 16 rfl rfl)
theorem dX3_save_183 : decode cX3_save 183 = .ok (.getfield 57, 3) := dk_180 0 57 (dk_at dksX3_save_7 17 rfl rfl)
theorem dX3_save_186 : decode cX3_save 186 = .ok (.iastore, 1) := dk_79 (dk_at dksX3_save_7 20 rfl rfl)
theorem dX3_save_187 : decode cX3_save 187 = .ok (.aload_n 0, 1) := dk_42 (dk_at dksX3_save_7 21 rfl rfl)
theorem dX3_save_188 : decode cX3_save 188 = .ok (.invokevirtual 202, 3) := dk_182 0 202 (dk_at dksX3_save_8 0 rfl rfl)
theorem dX3_save_191 : decode cX3_save 191 = .ok (.ireturn, 1) := dk_172 (dk_at dksX3_save_8 3 rfl rfl)
abbrev cX3_load : ByteArray := prog_10_method_96_code
def yX3_load : MethodName := ⟨RX3, "load", "()I"⟩
def dkwX3_load_9 : List UInt8 := [132, 1, 1, 167, 255, 241, 42, 182, 0, 202, 172]
abbrev dktX3_load_9 : List UInt8 := dkwX3_load_9 ++ []
def dkwX3_load_8 : List UInt8 := [42, 180, 0, 157, 16, 6, 46, 181, 0, 57, 3, 60, 27, 7, 162, 0, 16, 42, 180, 0, 124, 27, 3, 84]
abbrev dktX3_load_8 : List UInt8 := dkwX3_load_8 ++ dktX3_load_9
def dkwX3_load_7 : List UInt8 := [181, 0, 48, 42, 42, 180, 0, 157, 7, 46, 181, 0, 51, 42, 42, 180, 0, 157, 8, 46, 181, 0, 54, 42]
abbrev dktX3_load_7 : List UInt8 := dkwX3_load_7 ++ dktX3_load_8
def dkwX3_load_6 : List UInt8 := [4, 46, 181, 0, 42, 42, 42, 180, 0, 157, 5, 46, 181, 0, 45, 42, 42, 180, 0, 157, 6, 46]
abbrev dktX3_load_6 : List UInt8 := dkwX3_load_6 ++ dktX3_load_7
def dkwX3_load_5 : List UInt8 := [27, 51, 84, 132, 1, 1, 167, 255, 150, 42, 42, 180, 0, 157, 3, 46, 181, 0, 39, 42, 42, 180, 0, 157]
abbrev dktX3_load_5 : List UInt8 := dkwX3_load_5 ++ dktX3_load_6
def dkwX3_load_4 : List UInt8 := [27, 46, 79, 42, 180, 0, 32, 27, 42, 180, 0, 154, 27, 46, 79, 42, 180, 0, 35, 27, 42, 180, 0, 160]
abbrev dktX3_load_4 : List UInt8 := dkwX3_load_4 ++ dktX3_load_5
def dkwX3_load_3 : List UInt8 := [27, 46, 79, 42, 180, 0, 26, 27, 42, 180, 0, 148, 27, 46, 79, 42, 180, 0, 29, 27, 42, 180, 0, 151]
abbrev dktX3_load_3 : List UInt8 := dkwX3_load_3 ++ dktX3_load_4
def dkwX3_load_2 : List UInt8 := [27, 46, 79, 42, 180, 0, 20, 27, 42, 180, 0, 142, 27, 46, 79, 42, 180, 0, 23, 27, 42, 180, 0, 145]
abbrev dktX3_load_2 : List UInt8 := dkwX3_load_2 ++ dktX3_load_3
def dkwX3_load_1 : List UInt8 := [162, 0, 105, 42, 180, 0, 13, 27, 42, 180, 0, 136, 27, 46, 79, 42, 180, 0, 17, 27, 42, 180, 0, 139]
abbrev dktX3_load_1 : List UInt8 := dkwX3_load_1 ++ dktX3_load_2
def dkwX3_load_0 : List UInt8 := [42, 3, 181, 0, 1, 42, 180, 0, 133, 154, 0, 9, 42, 4, 182, 0, 190, 172, 3, 60, 27, 17, 1, 244]
abbrev dktX3_load_0 : List UInt8 := dkwX3_load_0 ++ dktX3_load_1
theorem dksX3_load_0 : cX3_load.data.toList.drop 0 = dktX3_load_0 := by decide +kernel
theorem dksX3_load_1 : cX3_load.data.toList.drop 24 = dktX3_load_1 := dk_seg dksX3_load_0 24 rfl rfl
theorem dksX3_load_2 : cX3_load.data.toList.drop 48 = dktX3_load_2 := dk_seg dksX3_load_1 24 rfl rfl
theorem dksX3_load_3 : cX3_load.data.toList.drop 72 = dktX3_load_3 := dk_seg dksX3_load_2 24 rfl rfl
theorem dksX3_load_4 : cX3_load.data.toList.drop 96 = dktX3_load_4 := dk_seg dksX3_load_3 24 rfl rfl
theorem dksX3_load_5 : cX3_load.data.toList.drop 120 = dktX3_load_5 := dk_seg dksX3_load_4 24 rfl rfl
theorem dksX3_load_6 : cX3_load.data.toList.drop 144 = dktX3_load_6 := dk_seg dksX3_load_5 24 rfl rfl
theorem dksX3_load_7 : cX3_load.data.toList.drop 166 = dktX3_load_7 := dk_seg dksX3_load_6 22 rfl rfl
theorem dksX3_load_8 : cX3_load.data.toList.drop 190 = dktX3_load_8 := dk_seg dksX3_load_7 24 rfl rfl
theorem dksX3_load_9 : cX3_load.data.toList.drop 214 = dktX3_load_9 := dk_seg dksX3_load_8 24 rfl rfl
theorem dX3_load_0 : decode cX3_load 0 = .ok (.aload_n 0, 1) := dk_42 (dk_at dksX3_load_0 0 rfl rfl)
theorem dX3_load_1 : decode cX3_load 1 = .ok (.iconst 0, 1) := dk_3 (dk_at dksX3_load_0 1 rfl rfl)
theorem dX3_load_2 : decode cX3_load 2 = .ok (.putfield 1, 3) := dk_181 0 1 (dk_at dksX3_load_0 2 rfl rfl)
theorem dX3_load_5 : decode cX3_load 5 = .ok (.aload_n 0, 1) := dk_42 (dk_at dksX3_load_0 5 rfl rfl)
theorem dX3_load_6 : decode cX3_load 6 = .ok (.getfield 133, 3) := dk_180 0 133 (dk_at dksX3_load_0 6 rfl rfl)
theorem dX3_load_9 : decode cX3_load 9 = .ok (.ifCond .ne 9, 3) := dk_154 0 9 (dk_at dksX3_load_0 9 rfl rfl)
theorem dX3_load_12 : decode cX3_load 12 = .ok (.aload_n 0, 1) := dk_42 (dk_at dksX3_load_0 12 rfl rfl)
theorem dX3_load_13 : decode cX3_load 13 = .ok (.iconst 1, 1) := dk_4 (dk_at dksX3_load_0 13 rfl rfl)
theorem dX3_load_14 : decode cX3_load 14 = .ok (.invokevirtual 190, 3) := dk_182 0 190 (dk_at dksX3_load_0 14 rfl rfl)
theorem dX3_load_17 : decode cX3_load 17 = .ok (.ireturn, 1) := dk_172 (dk_at dksX3_load_0 17 rfl rfl)
theorem dX3_load_18 : decode cX3_load 18 = .ok (.iconst 0, 1) := dk_3 (dk_at dksX3_load_0 18 rfl rfl)
theorem dX3_load_19 : decode cX3_load 19 = .ok (.istore_n 1, 1) := dk_60 (dk_at dksX3_load_0 19 rfl rfl)
theorem dX3_load_20 : decode cX3_load 20 = .ok (.iload_n 1, 1) := dk_27 (dk_at dksX3_load_0 20 rfl rfl)
theorem dX3_load_21 : decode cX3_load 21 = .ok (.sipush 500, 3) := dk_17 1 244 (dk_at dksX3_load_0 21 rfl rfl)
theorem dX3_load_24 : decode cX3_load 24 = .ok (.if_icmp .ge 105, 3) := dk_162 0 105 (dk_at dksX3_load_1 0 rfl rfl)
theorem dX3_load_27 : decode cX3_load 27 = .ok (.aload_n 0, 1) := dk_42 (dk_at dksX3_load_1 3 rfl rfl)
theorem dX3_load_28 : decode cX3_load 28 = .ok (.getfield 13, 3) := dk_180 0 13 (dk_at dksX3_load_1 4 rfl rfl)
theorem dX3_load_31 : decode cX3_load 31 = .ok (.iload_n 1, 1) := dk_27 (dk_at dksX3_load_1 7 rfl rfl)
theorem dX3_load_32 : decode cX3_load 32 = .ok (.aload_n 0, 1) := dk_42 (dk_at dksX3_load_1 8 rfl rfl)
theorem dX3_load_33 : decode cX3_load 33 = .ok (.getfield 136, 3) := dk_180 0 136 (dk_at dksX3_load_1 9 rfl rfl)
theorem dX3_load_36 : decode cX3_load 36 = .ok (.iload_n 1, 1) := dk_27 (dk_at dksX3_load_1 12 rfl rfl)
theorem dX3_load_37 : decode cX3_load 37 = .ok (.iaload, 1) := dk_46 (dk_at dksX3_load_1 13 rfl rfl)
theorem dX3_load_38 : decode cX3_load 38 = .ok (.iastore, 1) := dk_79 (dk_at dksX3_load_1 14 rfl rfl)
theorem dX3_load_39 : decode cX3_load 39 = .ok (.aload_n 0, 1) := dk_42 (dk_at dksX3_load_1 15 rfl rfl)
theorem dX3_load_40 : decode cX3_load 40 = .ok (.getfield 17, 3) := dk_180 0 17 (dk_at dksX3_load_1 16 rfl rfl)
theorem dX3_load_43 : decode cX3_load 43 = .ok (.iload_n 1, 1) := dk_27 (dk_at dksX3_load_1 19 rfl rfl)
theorem dX3_load_44 : decode cX3_load 44 = .ok (.aload_n 0, 1) := dk_42 (dk_at dksX3_load_1 20 rfl rfl)
theorem dX3_load_45 : decode cX3_load 45 = .ok (.getfield 139, 3) := dk_180 0 139 (dk_at dksX3_load_1 21 rfl rfl)
theorem dX3_load_48 : decode cX3_load 48 = .ok (.iload_n 1, 1) := dk_27 (dk_at dksX3_load_2 0 rfl rfl)
theorem dX3_load_49 : decode cX3_load 49 = .ok (.iaload, 1) := dk_46 (dk_at dksX3_load_2 1 rfl rfl)
theorem dX3_load_50 : decode cX3_load 50 = .ok (.iastore, 1) := dk_79 (dk_at dksX3_load_2 2 rfl rfl)
theorem dX3_load_51 : decode cX3_load 51 = .ok (.aload_n 0, 1) := dk_42 (dk_at dksX3_load_2 3 rfl rfl)
theorem dX3_load_52 : decode cX3_load 52 = .ok (.getfield 20, 3) := dk_180 0 20 (dk_at dksX3_load_2 4 rfl rfl)
theorem dX3_load_55 : decode cX3_load 55 = .ok (.iload_n 1, 1) := dk_27 (dk_at dksX3_load_2 7 rfl rfl)
theorem dX3_load_56 : decode cX3_load 56 = .ok (.aload_n 0, 1) := dk_42 (dk_at dksX3_load_2 8 rfl rfl)
theorem dX3_load_57 : decode cX3_load 57 = .ok (.getfield 142, 3) := dk_180 0 142 (dk_at dksX3_load_2 9 rfl rfl)
theorem dX3_load_60 : decode cX3_load 60 = .ok (.iload_n 1, 1) := dk_27 (dk_at dksX3_load_2 12 rfl rfl)
theorem dX3_load_61 : decode cX3_load 61 = .ok (.iaload, 1) := dk_46 (dk_at dksX3_load_2 13 rfl rfl)
theorem dX3_load_62 : decode cX3_load 62 = .ok (.iastore, 1) := dk_79 (dk_at dksX3_load_2 14 rfl rfl)
theorem dX3_load_63 : decode cX3_load 63 = .ok (.aload_n 0, 1) := dk_42 (dk_at dksX3_load_2 15 rfl rfl)
theorem dX3_load_64 : decode cX3_load 64 = .ok (.getfield 23, 3) := dk_180 0 23 (dk_at dksX3_load_2 16 rfl rfl)
theorem dX3_load_67 : decode cX3_load 67 = .ok (.iload_n 1, 1) := dk_27 (dk_at dksX3_load_2 19 rfl rfl)
theorem dX3_load_68 : decode cX3_load 68 = .ok (.aload_n 0, 1) := dk_42 (dk_at dksX3_load_2 20 rfl rfl)
theorem dX3_load_69 : decode cX3_load 69 = .ok (.getfield 145, 3) := dk_180 0 145 (dk_at dksX3_load_2 21 rfl rfl)
theorem dX3_load_72 : decode cX3_load 72 = .ok (.iload_n 1, 1) := dk_27 (dk_at dksX3_load_3 0 rfl rfl)
theorem dX3_load_73 : decode cX3_load 73 = .ok (.iaload, 1) := dk_46 (dk_at dksX3_load_3 1 rfl rfl)
theorem dX3_load_74 : decode cX3_load 74 = .ok (.iastore, 1) := dk_79 (dk_at dksX3_load_3 2 rfl rfl)
theorem dX3_load_75 : decode cX3_load 75 = .ok (.aload_n 0, 1) := dk_42 (dk_at dksX3_load_3 3 rfl rfl)
theorem dX3_load_76 : decode cX3_load 76 = .ok (.getfield 26, 3) := dk_180 0 26 (dk_at dksX3_load_3 4 rfl rfl)
theorem dX3_load_79 : decode cX3_load 79 = .ok (.iload_n 1, 1) := dk_27 (dk_at dksX3_load_3 7 rfl rfl)
theorem dX3_load_80 : decode cX3_load 80 = .ok (.aload_n 0, 1) := dk_42 (dk_at dksX3_load_3 8 rfl rfl)
theorem dX3_load_81 : decode cX3_load 81 = .ok (.getfield 148, 3) := dk_180 0 148 (dk_at dksX3_load_3 9 rfl rfl)
theorem dX3_load_84 : decode cX3_load 84 = .ok (.iload_n 1, 1) := dk_27 (dk_at dksX3_load_3 12 rfl rfl)
theorem dX3_load_85 : decode cX3_load 85 = .ok (.iaload, 1) := dk_46 (dk_at dksX3_load_3 13 rfl rfl)
theorem dX3_load_86 : decode cX3_load 86 = .ok (.iastore, 1) := dk_79 (dk_at dksX3_load_3 14 rfl rfl)
theorem dX3_load_87 : decode cX3_load 87 = .ok (.aload_n 0, 1) := dk_42 (dk_at dksX3_load_3 15 rfl rfl)
theorem dX3_load_88 : decode cX3_load 88 = .ok (.getfield 29, 3) := dk_180 0 29 (dk_at dksX3_load_3 16 rfl rfl)
theorem dX3_load_91 : decode cX3_load 91 = .ok (.iload_n 1, 1) := dk_27 (dk_at dksX3_load_3 19 rfl rfl)
theorem dX3_load_92 : decode cX3_load 92 = .ok (.aload_n 0, 1) := dk_42 (dk_at dksX3_load_3 20 rfl rfl)
theorem dX3_load_93 : decode cX3_load 93 = .ok (.getfield 151, 3) := dk_180 0 151 (dk_at dksX3_load_3 21 rfl rfl)
theorem dX3_load_96 : decode cX3_load 96 = .ok (.iload_n 1, 1) := dk_27 (dk_at dksX3_load_4 0 rfl rfl)
theorem dX3_load_97 : decode cX3_load 97 = .ok (.iaload, 1) := dk_46 (dk_at dksX3_load_4 1 rfl rfl)
theorem dX3_load_98 : decode cX3_load 98 = .ok (.iastore, 1) := dk_79 (dk_at dksX3_load_4 2 rfl rfl)
theorem dX3_load_99 : decode cX3_load 99 = .ok (.aload_n 0, 1) := dk_42 (dk_at dksX3_load_4 3 rfl rfl)
theorem dX3_load_100 : decode cX3_load 100 = .ok (.getfield 32, 3) := dk_180 0 32 (dk_at dksX3_load_4 4 rfl rfl)
theorem dX3_load_103 : decode cX3_load 103 = .ok (.iload_n 1, 1) := dk_27 (dk_at dksX3_load_4 7 rfl rfl)
theorem dX3_load_104 : decode cX3_load 104 = .ok (.aload_n 0, 1) := dk_42 (dk_at dksX3_load_4 8 rfl rfl)
theorem dX3_load_105 : decode cX3_load 105 = .ok (.getfield 154, 3) := dk_180 0 154 (dk_at dksX3_load_4 9 rfl rfl)
theorem dX3_load_108 : decode cX3_load 108 = .ok (.iload_n 1, 1) := dk_27 (dk_at dksX3_load_4 12 rfl rfl)
theorem dX3_load_109 : decode cX3_load 109 = .ok (.iaload, 1) := dk_46 (dk_at dksX3_load_4 13 rfl rfl)
theorem dX3_load_110 : decode cX3_load 110 = .ok (.iastore, 1) := dk_79 (dk_at dksX3_load_4 14 rfl rfl)
theorem dX3_load_111 : decode cX3_load 111 = .ok (.aload_n 0, 1) := dk_42 (dk_at dksX3_load_4 15 rfl rfl)
theorem dX3_load_112 : decode cX3_load 112 = .ok (.getfield 35, 3) := dk_180 0 35 (dk_at dksX3_load_4 16 rfl rfl)
theorem dX3_load_115 : decode cX3_load 115 = .ok (.iload_n 1, 1) := dk_27 (dk_at dksX3_load_4 19 rfl rfl)
theorem dX3_load_116 : decode cX3_load 116 = .ok (.aload_n 0, 1) := dk_42 (dk_at dksX3_load_4 20 rfl rfl)
theorem dX3_load_117 : decode cX3_load 117 = .ok (.getfield 160, 3) := dk_180 0 160 (dk_at dksX3_load_4 21 rfl rfl)
theorem dX3_load_120 : decode cX3_load 120 = .ok (.iload_n 1, 1) := dk_27 (dk_at dksX3_load_5 0 rfl rfl)
theorem dX3_load_121 : decode cX3_load 121 = .ok (.baload, 1) := dk_51 (dk_at dksX3_load_5 1 rfl rfl)
theorem dX3_load_122 : decode cX3_load 122 = .ok (.bastore, 1) := dk_84 (dk_at dksX3_load_5 2 rfl rfl)
theorem dX3_load_123 : decode cX3_load 123 = .ok (.iinc 1 1, 3) := dk_132 1 1 (dk_at dksX3_load_5 3 rfl rfl)
theorem dX3_load_126 : decode cX3_load 126 = .ok (.goto (-106), 3) := dk_167 255 150 (dk_at dksX3_load_5 6 rfl rfl)
theorem dX3_load_129 : decode cX3_load 129 = .ok (.aload_n 0, 1) := dk_42 (dk_at dksX3_load_5 9 rfl rfl)
theorem dX3_load_130 : decode cX3_load 130 = .ok (.aload_n 0, 1) := dk_42 (dk_at dksX3_load_5 10 rfl rfl)
theorem dX3_load_131 : decode cX3_load 131 = .ok (.getfield 157, 3) := dk_180 0 157 (dk_at dksX3_load_5 11 rfl rfl)
theorem dX3_load_134 : decode cX3_load 134 = .ok (.iconst 0, 1) := dk_3 (dk_at dksX3_load_5 14 rfl rfl)
theorem dX3_load_135 : decode cX3_load 135 = .ok (.iaload, 1) := dk_46 (dk_at dksX3_load_5 15 rfl rfl)
theorem dX3_load_136 : decode cX3_load 136 = .ok (.putfield 39, 3) := dk_181 0 39 (dk_at dksX3_load_5 16 rfl rfl)
theorem dX3_load_139 : decode cX3_load 139 = .ok (.aload_n 0, 1) := dk_42 (dk_at dksX3_load_5 19 rfl rfl)
theorem dX3_load_140 : decode cX3_load 140 = .ok (.aload_n 0, 1) := dk_42 (dk_at dksX3_load_5 20 rfl rfl)
theorem dX3_load_141 : decode cX3_load 141 = .ok (.getfield 157, 3) := dk_180 0 157 (dk_at dksX3_load_5 21 rfl rfl)
theorem dX3_load_144 : decode cX3_load 144 = .ok (.iconst 1, 1) := dk_4 (dk_at dksX3_load_6 0 rfl rfl)
theorem dX3_load_145 : decode cX3_load 145 = .ok (.iaload, 1) := dk_46 (dk_at dksX3_load_6 1 rfl rfl)
theorem dX3_load_146 : decode cX3_load 146 = .ok (.putfield 42, 3) := dk_181 0 42 (dk_at dksX3_load_6 2 rfl rfl)
theorem dX3_load_149 : decode cX3_load 149 = .ok (.aload_n 0, 1) := dk_42 (dk_at dksX3_load_6 5 rfl rfl)
theorem dX3_load_150 : decode cX3_load 150 = .ok (.aload_n 0, 1) := dk_42 (dk_at dksX3_load_6 6 rfl rfl)
theorem dX3_load_151 : decode cX3_load 151 = .ok (.getfield 157, 3) := dk_180 0 157 (dk_at dksX3_load_6 7 rfl rfl)
theorem dX3_load_154 : decode cX3_load 154 = .ok (.iconst 2, 1) := dk_5 (dk_at dksX3_load_6 10 rfl rfl)
theorem dX3_load_155 : decode cX3_load 155 = .ok (.iaload, 1) := dk_46 (dk_at dksX3_load_6 11 rfl rfl)
theorem dX3_load_156 : decode cX3_load 156 = .ok (.putfield 45, 3) := dk_181 0 45 (dk_at dksX3_load_6 12 rfl rfl)
theorem dX3_load_159 : decode cX3_load 159 = .ok (.aload_n 0, 1) := dk_42 (dk_at dksX3_load_6 15 rfl rfl)
theorem dX3_load_160 : decode cX3_load 160 = .ok (.aload_n 0, 1) := dk_42 (dk_at dksX3_load_6 16 rfl rfl)
theorem dX3_load_161 : decode cX3_load 161 = .ok (.getfield 157, 3) := dk_180 0 157 (dk_at dksX3_load_6 17 rfl rfl)
theorem dX3_load_164 : decode cX3_load 164 = .ok (.iconst 3, 1) := dk_6 (dk_at dksX3_load_6 20 rfl rfl)
theorem dX3_load_165 : decode cX3_load 165 = .ok (.iaload, 1) := dk_46 (dk_at dksX3_load_6 21 rfl rfl)
theorem dX3_load_166 : decode cX3_load 166 = .ok (.putfield 48, 3) := dk_181 0 48 (dk_at dksX3_load_7 0 rfl rfl)
theorem dX3_load_169 : decode cX3_load 169 = .ok (.aload_n 0, 1) := dk_42 (dk_at dksX3_load_7 3 rfl rfl)
theorem dX3_load_170 : decode cX3_load 170 = .ok (.aload_n 0, 1) := dk_42 (dk_at dksX3_load_7 4 rfl rfl)
theorem dX3_load_171 : decode cX3_load 171 = .ok (.getfield 157, 3) := dk_180 0 157 (dk_at dksX3_load_7 5 rfl rfl)
theorem dX3_load_174 : decode cX3_load 174 = .ok (.iconst 4, 1) := dk_7 (dk_at dksX3_load_7 8 rfl rfl)
theorem dX3_load_175 : decode cX3_load 175 = .ok (.iaload, 1) := dk_46 (dk_at dksX3_load_7 9 rfl rfl)
theorem dX3_load_176 : decode cX3_load 176 = .ok (.putfield 51, 3) := dk_181 0 51 (dk_at dksX3_load_7 10 rfl rfl)
theorem dX3_load_179 : decode cX3_load 179 = .ok (.aload_n 0, 1) := dk_42 (dk_at dksX3_load_7 13 rfl rfl)
theorem dX3_load_180 : decode cX3_load 180 = .ok (.aload_n 0, 1) := dk_42 (dk_at dksX3_load_7 14 rfl rfl)
theorem dX3_load_181 : decode cX3_load 181 = .ok (.getfield 157, 3) := dk_180 0 157 (dk_at dksX3_load_7 15 rfl rfl)
theorem dX3_load_184 : decode cX3_load 184 = .ok (.iconst 5, 1) := dk_8 (dk_at dksX3_load_7 18 rfl rfl)
theorem dX3_load_185 : decode cX3_load 185 = .ok (.iaload, 1) := dk_46 (dk_at dksX3_load_7 19 rfl rfl)
theorem dX3_load_186 : decode cX3_load 186 = .ok (.putfield 54, 3) := dk_181 0 54 (dk_at dksX3_load_7 20 rfl rfl)
theorem dX3_load_189 : decode cX3_load 189 = .ok (.aload_n 0, 1) := dk_42 (dk_at dksX3_load_7 23 rfl rfl)
theorem dX3_load_190 : decode cX3_load 190 = .ok (.aload_n 0, 1) := dk_42 (dk_at dksX3_load_8 0 rfl rfl)
theorem dX3_load_191 : decode cX3_load 191 = .ok (.getfield 157, 3) := dk_180 0 157 (dk_at dksX3_load_8 1 rfl rfl)
theorem dX3_load_194 : decode cX3_load 194 = .ok (.bipush 6, 2) := dk_16 6 (dk_at dksX3_load_8 4 rfl rfl)
theorem dX3_load_196 : decode cX3_load 196 = .ok (.iaload, 1) := dk_46 (dk_at dksX3_load_8 6 rfl rfl)
theorem dX3_load_197 : decode cX3_load 197 = .ok (.putfield 57, 3) := dk_181 0 57 (dk_at dksX3_load_8 7 rfl rfl)
theorem dX3_load_200 : decode cX3_load 200 = .ok (.iconst 0, 1) := dk_3 (dk_at dksX3_load_8 10 rfl rfl)
theorem dX3_load_201 : decode cX3_load 201 = .ok (.istore_n 1, 1) := dk_60 (dk_at dksX3_load_8 11 rfl rfl)
theorem dX3_load_202 : decode cX3_load 202 = .ok (.iload_n 1, 1) := dk_27 (dk_at dksX3_load_8 12 rfl rfl)
theorem dX3_load_203 : decode cX3_load 203 = .ok (.iconst 4, 1) := dk_7 (dk_at dksX3_load_8 13 rfl rfl)
theorem dX3_load_204 : decode cX3_load 204 = .ok (.if_icmp .ge 16, 3) := dk_162 0 16 (dk_at dksX3_load_8 14 rfl rfl)
theorem dX3_load_207 : decode cX3_load 207 = .ok (.aload_n 0, 1) := dk_42 (dk_at dksX3_load_8 17 rfl rfl)
theorem dX3_load_208 : decode cX3_load 208 = .ok (.getfield 124, 3) := dk_180 0 124 (dk_at dksX3_load_8 18 rfl rfl)
theorem dX3_load_211 : decode cX3_load 211 = .ok (.iload_n 1, 1) := dk_27 (dk_at dksX3_load_8 21 rfl rfl)
theorem dX3_load_212 : decode cX3_load 212 = .ok (.iconst 0, 1) := dk_3 (dk_at dksX3_load_8 22 rfl rfl)
theorem dX3_load_213 : decode cX3_load 213 = .ok (.bastore, 1) := dk_84 (dk_at dksX3_load_8 23 rfl rfl)
theorem dX3_load_214 : decode cX3_load 214 = .ok (.iinc 1 1, 3) := dk_132 1 1 (dk_at dksX3_load_9 0 rfl rfl)
theorem dX3_load_217 : decode cX3_load 217 = .ok (.goto (-15), 3) := dk_167 255 241 (dk_at dksX3_load_9 3 rfl rfl)
theorem dX3_load_220 : decode cX3_load 220 = .ok (.aload_n 0, 1) := dk_42 (dk_at dksX3_load_9 6 rfl rfl)
theorem dX3_load_221 : decode cX3_load 221 = .ok (.invokevirtual 202, 3) := dk_182 0 202 (dk_at dksX3_load_9 7 rfl rfl)
theorem dX3_load_224 : decode cX3_load 224 = .ok (.ireturn, 1) := dk_172 (dk_at dksX3_load_9 10 rfl rfl)
theorem q95 : (Jvm.Cond.initialized "IntervalTreeModel") ∈ lw_all := lw_g (lw_at lw_m1 3 rfl) rfl
theorem q1247 : (Jvm.Cond.instanceMethod ({ cls := "IntervalTreeModel", name := "thrown", desc := "()I" } : Jvm.MethodName)) ∈ lw_all := lw_g (lw_at lw_m5 195 rfl) rfl
theorem q1248 : (Jvm.Cond.selects "IntervalTreeModel" ({ cls := "IntervalTreeModel", name := "thrown", desc := "()I" } : Jvm.MethodName) ({ cls := "IntervalTreeModel", name := "thrown", desc := "()I" } : Jvm.MethodName)) ∈ lw_all := lw_g (lw_at lw_m5 196 rfl) rfl
theorem q1249 : (Jvm.Cond.code ({ cls := "IntervalTreeModel", name := "thrown", desc := "()I" } : Jvm.MethodName) prog_10_method_1_code (1 : Nat) (Option.some Jvm.ClassFile.FieldType.int)) ∈ lw_all := lw_g (lw_at lw_m5 197 rfl) rfl
theorem q1251 : (Jvm.Cond.instantiable "IntervalTreeModel" (52 : Nat)) ∈ lw_all := lw_g (lw_at lw_m5 199 rfl) rfl
theorem q1253 : (Jvm.Cond.instanceMethod ({ cls := "IntervalTreeModel", name := "<init>", desc := "()V" } : Jvm.MethodName)) ∈ lw_all := lw_g (lw_at lw_m5 201 rfl) rfl
theorem q1254 : (Jvm.Cond.code ({ cls := "IntervalTreeModel", name := "<init>", desc := "()V" } : Jvm.MethodName) prog_10_method_4_code (1 : Nat) (Option.none : Option Jvm.ClassFile.FieldType)) ∈ lw_all := lw_g (lw_at lw_m5 202 rfl) rfl
theorem q1255 : (Jvm.Cond.methodLink "IntervalTreeModel" (7 : Nat) ({ cls := "java/lang/Object", name := "<init>", desc := "()V" } : Jvm.MethodName)) ∈ lw_all := lw_g (lw_at lw_m5 203 rfl) rfl
theorem q1256 : (Jvm.Cond.fieldLink "IntervalTreeModel" (1 : Nat) "IntervalTreeModel" "thrown" "I") ∈ lw_all := lw_g (lw_at lw_m5 204 rfl) rfl
theorem q1257 : (Jvm.Cond.fieldLink "IntervalTreeModel" (13 : Nat) "IntervalTreeModel" "low" "[I") ∈ lw_all := lw_g (lw_at lw_m5 205 rfl) rfl
theorem q1258 : (Jvm.Cond.fieldLink "IntervalTreeModel" (17 : Nat) "IntervalTreeModel" "high" "[I") ∈ lw_all := lw_g (lw_at lw_m5 206 rfl) rfl
theorem q1259 : (Jvm.Cond.fieldLink "IntervalTreeModel" (20 : Nat) "IntervalTreeModel" "weight" "[I") ∈ lw_all := lw_g (lw_at lw_m5 207 rfl) rfl
theorem q1260 : (Jvm.Cond.fieldLink "IntervalTreeModel" (23 : Nat) "IntervalTreeModel" "state" "[I") ∈ lw_all := lw_g (lw_at lw_m5 208 rfl) rfl
theorem q1261 : (Jvm.Cond.fieldLink "IntervalTreeModel" (26 : Nat) "IntervalTreeModel" "left" "[I") ∈ lw_all := lw_g (lw_at lw_m5 209 rfl) rfl
theorem q1262 : (Jvm.Cond.fieldLink "IntervalTreeModel" (29 : Nat) "IntervalTreeModel" "right" "[I") ∈ lw_all := lw_g (lw_at lw_m5 210 rfl) rfl
theorem q1263 : (Jvm.Cond.fieldLink "IntervalTreeModel" (32 : Nat) "IntervalTreeModel" "parent" "[I") ∈ lw_all := lw_g (lw_at lw_m5 211 rfl) rfl
theorem q1264 : (Jvm.Cond.fieldLink "IntervalTreeModel" (35 : Nat) "IntervalTreeModel" "red" "[Z") ∈ lw_all := lw_g (lw_at lw_m5 212 rfl) rfl
theorem q1265 : (Jvm.Cond.fieldLink "IntervalTreeModel" (39 : Nat) "IntervalTreeModel" "root" "I") ∈ lw_all := lw_g (lw_at lw_m5 213 rfl) rfl
theorem q1266 : (Jvm.Cond.fieldLink "IntervalTreeModel" (42 : Nat) "IntervalTreeModel" "inserted" "I") ∈ lw_all := lw_g (lw_at lw_m5 214 rfl) rfl
theorem q1267 : (Jvm.Cond.fieldLink "IntervalTreeModel" (45 : Nat) "IntervalTreeModel" "nodes" "I") ∈ lw_all := lw_g (lw_at lw_m5 215 rfl) rfl
theorem q1268 : (Jvm.Cond.fieldLink "IntervalTreeModel" (48 : Nat) "IntervalTreeModel" "removed" "I") ∈ lw_all := lw_g (lw_at lw_m5 216 rfl) rfl
theorem q1269 : (Jvm.Cond.fieldLink "IntervalTreeModel" (51 : Nat) "IntervalTreeModel" "percentage" "I") ∈ lw_all := lw_g (lw_at lw_m5 217 rfl) rfl
theorem q1270 : (Jvm.Cond.fieldLink "IntervalTreeModel" (54 : Nat) "IntervalTreeModel" "rebuilds" "I") ∈ lw_all := lw_g (lw_at lw_m5 218 rfl) rfl
theorem q1271 : (Jvm.Cond.fieldLink "IntervalTreeModel" (57 : Nat) "IntervalTreeModel" "rebuilt" "I") ∈ lw_all := lw_g (lw_at lw_m5 219 rfl) rfl
theorem q1272 : (Jvm.Cond.fieldLink "IntervalTreeModel" (60 : Nat) "IntervalTreeModel" "row" "[I") ∈ lw_all := lw_g (lw_at lw_m5 220 rfl) rfl
theorem q1273 : (Jvm.Cond.fieldLink "IntervalTreeModel" (63 : Nat) "IntervalTreeModel" "rowMany" "I") ∈ lw_all := lw_g (lw_at lw_m5 221 rfl) rfl
theorem q1274 : (Jvm.Cond.fieldLink "IntervalTreeModel" (66 : Nat) "IntervalTreeModel" "onLevel" "[I") ∈ lw_all := lw_g (lw_at lw_m5 222 rfl) rfl
theorem q1275 : (Jvm.Cond.fieldLink "IntervalTreeModel" (69 : Nat) "IntervalTreeModel" "depthOf" "[I") ∈ lw_all := lw_g (lw_at lw_m5 223 rfl) rfl
theorem q1276 : (Jvm.Cond.fieldLink "IntervalTreeModel" (227 : Nat) "IntervalTreeModel" "most" "I") ∈ lw_all := lw_g (lw_at lw_m5 224 rfl) rfl
theorem q1277 : (Jvm.Cond.fieldLink "IntervalTreeModel" (241 : Nat) "IntervalTreeModel" "digest" "I") ∈ lw_all := lw_g (lw_at lw_m5 225 rfl) rfl
theorem q1278 : (Jvm.Cond.fieldLink "IntervalTreeModel" (72 : Nat) "IntervalTreeModel" "cover" "[I") ∈ lw_all := lw_g (lw_at lw_m5 226 rfl) rfl
theorem q1279 : (Jvm.Cond.fieldLink "IntervalTreeModel" (75 : Nat) "IntervalTreeModel" "bestFrom" "[I") ∈ lw_all := lw_g (lw_at lw_m5 227 rfl) rfl
theorem q1280 : (Jvm.Cond.fieldLink "IntervalTreeModel" (78 : Nat) "IntervalTreeModel" "filters" "I") ∈ lw_all := lw_g (lw_at lw_m5 228 rfl) rfl
theorem q1281 : (Jvm.Cond.fieldLink "IntervalTreeModel" (81 : Nat) "IntervalTreeModel" "filterKind" "[I") ∈ lw_all := lw_g (lw_at lw_m5 229 rfl) rfl
theorem q1282 : (Jvm.Cond.fieldLink "IntervalTreeModel" (84 : Nat) "IntervalTreeModel" "filterA" "[I") ∈ lw_all := lw_g (lw_at lw_m5 230 rfl) rfl
theorem q1283 : (Jvm.Cond.fieldLink "IntervalTreeModel" (87 : Nat) "IntervalTreeModel" "filterB" "[I") ∈ lw_all := lw_g (lw_at lw_m5 231 rfl) rfl
theorem q1284 : (Jvm.Cond.fieldLink "IntervalTreeModel" (90 : Nat) "IntervalTreeModel" "filterC" "[I") ∈ lw_all := lw_g (lw_at lw_m5 232 rfl) rfl
theorem q1285 : (Jvm.Cond.fieldLink "IntervalTreeModel" (93 : Nat) "IntervalTreeModel" "parts" "[I") ∈ lw_all := lw_g (lw_at lw_m5 233 rfl) rfl
theorem q1286 : (Jvm.Cond.fieldLink "IntervalTreeModel" (96 : Nat) "IntervalTreeModel" "partWhat" "[I") ∈ lw_all := lw_g (lw_at lw_m5 234 rfl) rfl
theorem q1287 : (Jvm.Cond.fieldLink "IntervalTreeModel" (99 : Nat) "IntervalTreeModel" "partBy" "[I") ∈ lw_all := lw_g (lw_at lw_m5 235 rfl) rfl
theorem q1288 : (Jvm.Cond.fieldLink "IntervalTreeModel" (102 : Nat) "IntervalTreeModel" "partNumber" "[I") ∈ lw_all := lw_g (lw_at lw_m5 236 rfl) rfl
theorem q1289 : (Jvm.Cond.fieldLink "IntervalTreeModel" (105 : Nat) "IntervalTreeModel" "stack" "[Z") ∈ lw_all := lw_g (lw_at lw_m5 237 rfl) rfl
theorem q1290 : (Jvm.Cond.fieldLink "IntervalTreeModel" (108 : Nat) "IntervalTreeModel" "text" "[I") ∈ lw_all := lw_g (lw_at lw_m5 238 rfl) rfl
theorem q1291 : (Jvm.Cond.fieldLink "IntervalTreeModel" (111 : Nat) "IntervalTreeModel" "texted" "I") ∈ lw_all := lw_g (lw_at lw_m5 239 rfl) rfl
theorem q1292 : (Jvm.Cond.fieldLink "IntervalTreeModel" (114 : Nat) "IntervalTreeModel" "at" "I") ∈ lw_all := lw_g (lw_at lw_m6 0 rfl) rfl
theorem q1293 : (Jvm.Cond.fieldLink "IntervalTreeModel" (117 : Nat) "IntervalTreeModel" "references" "I") ∈ lw_all := lw_g (lw_at lw_m6 1 rfl) rfl
theorem q1294 : (Jvm.Cond.fieldLink "IntervalTreeModel" (120 : Nat) "IntervalTreeModel" "isWrong" "Z") ∈ lw_all := lw_g (lw_at lw_m6 2 rfl) rfl
theorem q1295 : (Jvm.Cond.fieldLink "IntervalTreeModel" (124 : Nat) "IntervalTreeModel" "isOpen" "[Z") ∈ lw_all := lw_g (lw_at lw_m6 3 rfl) rfl
theorem q1296 : (Jvm.Cond.fieldLink "IntervalTreeModel" (127 : Nat) "IntervalTreeModel" "cursorFilter" "[I") ∈ lw_all := lw_g (lw_at lw_m6 4 rfl) rfl
theorem q1297 : (Jvm.Cond.fieldLink "IntervalTreeModel" (130 : Nat) "IntervalTreeModel" "cursorLast" "[I") ∈ lw_all := lw_g (lw_at lw_m6 5 rfl) rfl
theorem q1298 : (Jvm.Cond.fieldLink "IntervalTreeModel" (133 : Nat) "IntervalTreeModel" "isSaved" "Z") ∈ lw_all := lw_g (lw_at lw_m6 6 rfl) rfl
theorem q1299 : (Jvm.Cond.fieldLink "IntervalTreeModel" (136 : Nat) "IntervalTreeModel" "lowWas" "[I") ∈ lw_all := lw_g (lw_at lw_m6 7 rfl) rfl
theorem q1300 : (Jvm.Cond.fieldLink "IntervalTreeModel" (139 : Nat) "IntervalTreeModel" "highWas" "[I") ∈ lw_all := lw_g (lw_at lw_m6 8 rfl) rfl
theorem q1301 : (Jvm.Cond.fieldLink "IntervalTreeModel" (142 : Nat) "IntervalTreeModel" "weightWas" "[I") ∈ lw_all := lw_g (lw_at lw_m6 9 rfl) rfl
theorem q1302 : (Jvm.Cond.fieldLink "IntervalTreeModel" (145 : Nat) "IntervalTreeModel" "stateWas" "[I") ∈ lw_all := lw_g (lw_at lw_m6 10 rfl) rfl
theorem q1303 : (Jvm.Cond.fieldLink "IntervalTreeModel" (148 : Nat) "IntervalTreeModel" "leftWas" "[I") ∈ lw_all := lw_g (lw_at lw_m6 11 rfl) rfl
theorem q1304 : (Jvm.Cond.fieldLink "IntervalTreeModel" (151 : Nat) "IntervalTreeModel" "rightWas" "[I") ∈ lw_all := lw_g (lw_at lw_m6 12 rfl) rfl
theorem q1305 : (Jvm.Cond.fieldLink "IntervalTreeModel" (154 : Nat) "IntervalTreeModel" "parentWas" "[I") ∈ lw_all := lw_g (lw_at lw_m6 13 rfl) rfl
theorem q1306 : (Jvm.Cond.fieldLink "IntervalTreeModel" (157 : Nat) "IntervalTreeModel" "numbersWere" "[I") ∈ lw_all := lw_g (lw_at lw_m6 14 rfl) rfl
theorem q1307 : (Jvm.Cond.fieldLink "IntervalTreeModel" (160 : Nat) "IntervalTreeModel" "redWas" "[Z") ∈ lw_all := lw_g (lw_at lw_m6 15 rfl) rfl
theorem q1308 : (Jvm.Cond.lays "IntervalTreeModel" "IntervalTreeModel" "thrown" "I") ∈ lw_all := lw_g (lw_at lw_m6 16 rfl) rfl
theorem q1309 : (Jvm.Cond.soleField "IntervalTreeModel" "thrown") ∈ lw_all := lw_g (lw_at lw_m6 17 rfl) rfl
theorem q1310 : (Jvm.Cond.laysFinal "IntervalTreeModel" "IntervalTreeModel" "low" "[I") ∈ lw_all := lw_g (lw_at lw_m6 18 rfl) rfl
theorem q1311 : (Jvm.Cond.soleField "IntervalTreeModel" "low") ∈ lw_all := lw_g (lw_at lw_m6 19 rfl) rfl
theorem q1312 : (Jvm.Cond.laysFinal "IntervalTreeModel" "IntervalTreeModel" "high" "[I") ∈ lw_all := lw_g (lw_at lw_m6 20 rfl) rfl
theorem q1313 : (Jvm.Cond.soleField "IntervalTreeModel" "high") ∈ lw_all := lw_g (lw_at lw_m6 21 rfl) rfl
theorem q1314 : (Jvm.Cond.laysFinal "IntervalTreeModel" "IntervalTreeModel" "weight" "[I") ∈ lw_all := lw_g (lw_at lw_m6 22 rfl) rfl
theorem q1315 : (Jvm.Cond.soleField "IntervalTreeModel" "weight") ∈ lw_all := lw_g (lw_at lw_m6 23 rfl) rfl
theorem q1316 : (Jvm.Cond.laysFinal "IntervalTreeModel" "IntervalTreeModel" "state" "[I") ∈ lw_all := lw_g (lw_at lw_m6 24 rfl) rfl
theorem q1317 : (Jvm.Cond.soleField "IntervalTreeModel" "state") ∈ lw_all := lw_g (lw_at lw_m6 25 rfl) rfl
theorem q1318 : (Jvm.Cond.laysFinal "IntervalTreeModel" "IntervalTreeModel" "left" "[I") ∈ lw_all := lw_g (lw_at lw_m6 26 rfl) rfl
theorem q1319 : (Jvm.Cond.soleField "IntervalTreeModel" "left") ∈ lw_all := lw_g (lw_at lw_m6 27 rfl) rfl
theorem q1320 : (Jvm.Cond.laysFinal "IntervalTreeModel" "IntervalTreeModel" "right" "[I") ∈ lw_all := lw_g (lw_at lw_m6 28 rfl) rfl
theorem q1321 : (Jvm.Cond.soleField "IntervalTreeModel" "right") ∈ lw_all := lw_g (lw_at lw_m6 29 rfl) rfl
theorem q1322 : (Jvm.Cond.laysFinal "IntervalTreeModel" "IntervalTreeModel" "parent" "[I") ∈ lw_all := lw_g (lw_at lw_m6 30 rfl) rfl
theorem q1323 : (Jvm.Cond.soleField "IntervalTreeModel" "parent") ∈ lw_all := lw_g (lw_at lw_m6 31 rfl) rfl
theorem q1324 : (Jvm.Cond.laysFinal "IntervalTreeModel" "IntervalTreeModel" "red" "[Z") ∈ lw_all := lw_g (lw_at lw_m6 32 rfl) rfl
theorem q1325 : (Jvm.Cond.soleField "IntervalTreeModel" "red") ∈ lw_all := lw_g (lw_at lw_m6 33 rfl) rfl
theorem q1326 : (Jvm.Cond.lays "IntervalTreeModel" "IntervalTreeModel" "root" "I") ∈ lw_all := lw_g (lw_at lw_m6 34 rfl) rfl
theorem q1327 : (Jvm.Cond.soleField "IntervalTreeModel" "root") ∈ lw_all := lw_g (lw_at lw_m6 35 rfl) rfl
theorem q1328 : (Jvm.Cond.lays "IntervalTreeModel" "IntervalTreeModel" "inserted" "I") ∈ lw_all := lw_g (lw_at lw_m6 36 rfl) rfl
theorem q1329 : (Jvm.Cond.soleField "IntervalTreeModel" "inserted") ∈ lw_all := lw_g (lw_at lw_m6 37 rfl) rfl
theorem q1330 : (Jvm.Cond.lays "IntervalTreeModel" "IntervalTreeModel" "nodes" "I") ∈ lw_all := lw_g (lw_at lw_m6 38 rfl) rfl
theorem q1331 : (Jvm.Cond.soleField "IntervalTreeModel" "nodes") ∈ lw_all := lw_g (lw_at lw_m6 39 rfl) rfl
theorem q1332 : (Jvm.Cond.lays "IntervalTreeModel" "IntervalTreeModel" "removed" "I") ∈ lw_all := lw_g (lw_at lw_m6 40 rfl) rfl
theorem q1333 : (Jvm.Cond.soleField "IntervalTreeModel" "removed") ∈ lw_all := lw_g (lw_at lw_m6 41 rfl) rfl
theorem q1334 : (Jvm.Cond.lays "IntervalTreeModel" "IntervalTreeModel" "percentage" "I") ∈ lw_all := lw_g (lw_at lw_m6 42 rfl) rfl
theorem q1335 : (Jvm.Cond.soleField "IntervalTreeModel" "percentage") ∈ lw_all := lw_g (lw_at lw_m6 43 rfl) rfl
theorem q1336 : (Jvm.Cond.lays "IntervalTreeModel" "IntervalTreeModel" "rebuilds" "I") ∈ lw_all := lw_g (lw_at lw_m6 44 rfl) rfl
theorem q1337 : (Jvm.Cond.soleField "IntervalTreeModel" "rebuilds") ∈ lw_all := lw_g (lw_at lw_m6 45 rfl) rfl
theorem q1338 : (Jvm.Cond.lays "IntervalTreeModel" "IntervalTreeModel" "rebuilt" "I") ∈ lw_all := lw_g (lw_at lw_m6 46 rfl) rfl
theorem q1339 : (Jvm.Cond.soleField "IntervalTreeModel" "rebuilt") ∈ lw_all := lw_g (lw_at lw_m6 47 rfl) rfl
theorem q1340 : (Jvm.Cond.laysFinal "IntervalTreeModel" "IntervalTreeModel" "row" "[I") ∈ lw_all := lw_g (lw_at lw_m6 48 rfl) rfl
theorem q1341 : (Jvm.Cond.soleField "IntervalTreeModel" "row") ∈ lw_all := lw_g (lw_at lw_m6 49 rfl) rfl
theorem q1342 : (Jvm.Cond.lays "IntervalTreeModel" "IntervalTreeModel" "rowMany" "I") ∈ lw_all := lw_g (lw_at lw_m6 50 rfl) rfl
theorem q1343 : (Jvm.Cond.soleField "IntervalTreeModel" "rowMany") ∈ lw_all := lw_g (lw_at lw_m6 51 rfl) rfl
theorem q1344 : (Jvm.Cond.laysFinal "IntervalTreeModel" "IntervalTreeModel" "onLevel" "[I") ∈ lw_all := lw_g (lw_at lw_m6 52 rfl) rfl
theorem q1345 : (Jvm.Cond.soleField "IntervalTreeModel" "onLevel") ∈ lw_all := lw_g (lw_at lw_m6 53 rfl) rfl
theorem q1346 : (Jvm.Cond.laysFinal "IntervalTreeModel" "IntervalTreeModel" "depthOf" "[I") ∈ lw_all := lw_g (lw_at lw_m6 54 rfl) rfl
theorem q1347 : (Jvm.Cond.soleField "IntervalTreeModel" "depthOf") ∈ lw_all := lw_g (lw_at lw_m6 55 rfl) rfl
theorem q1348 : (Jvm.Cond.lays "IntervalTreeModel" "IntervalTreeModel" "most" "I") ∈ lw_all := lw_g (lw_at lw_m6 56 rfl) rfl
theorem q1349 : (Jvm.Cond.soleField "IntervalTreeModel" "most") ∈ lw_all := lw_g (lw_at lw_m6 57 rfl) rfl
theorem q1350 : (Jvm.Cond.lays "IntervalTreeModel" "IntervalTreeModel" "digest" "I") ∈ lw_all := lw_g (lw_at lw_m6 58 rfl) rfl
theorem q1351 : (Jvm.Cond.soleField "IntervalTreeModel" "digest") ∈ lw_all := lw_g (lw_at lw_m6 59 rfl) rfl
theorem q1352 : (Jvm.Cond.laysFinal "IntervalTreeModel" "IntervalTreeModel" "cover" "[I") ∈ lw_all := lw_g (lw_at lw_m6 60 rfl) rfl
theorem q1353 : (Jvm.Cond.soleField "IntervalTreeModel" "cover") ∈ lw_all := lw_g (lw_at lw_m6 61 rfl) rfl
theorem q1354 : (Jvm.Cond.laysFinal "IntervalTreeModel" "IntervalTreeModel" "bestFrom" "[I") ∈ lw_all := lw_g (lw_at lw_m6 62 rfl) rfl
theorem q1355 : (Jvm.Cond.soleField "IntervalTreeModel" "bestFrom") ∈ lw_all := lw_g (lw_at lw_m6 63 rfl) rfl
theorem q1356 : (Jvm.Cond.lays "IntervalTreeModel" "IntervalTreeModel" "filters" "I") ∈ lw_all := lw_g (lw_at lw_m6 64 rfl) rfl
theorem q1357 : (Jvm.Cond.soleField "IntervalTreeModel" "filters") ∈ lw_all := lw_g (lw_at lw_m6 65 rfl) rfl
theorem q1358 : (Jvm.Cond.laysFinal "IntervalTreeModel" "IntervalTreeModel" "filterKind" "[I") ∈ lw_all := lw_g (lw_at lw_m6 66 rfl) rfl
theorem q1359 : (Jvm.Cond.soleField "IntervalTreeModel" "filterKind") ∈ lw_all := lw_g (lw_at lw_m6 67 rfl) rfl
theorem q1360 : (Jvm.Cond.laysFinal "IntervalTreeModel" "IntervalTreeModel" "filterA" "[I") ∈ lw_all := lw_g (lw_at lw_m6 68 rfl) rfl
theorem q1361 : (Jvm.Cond.soleField "IntervalTreeModel" "filterA") ∈ lw_all := lw_g (lw_at lw_m6 69 rfl) rfl
theorem q1362 : (Jvm.Cond.laysFinal "IntervalTreeModel" "IntervalTreeModel" "filterB" "[I") ∈ lw_all := lw_g (lw_at lw_m6 70 rfl) rfl
theorem q1363 : (Jvm.Cond.soleField "IntervalTreeModel" "filterB") ∈ lw_all := lw_g (lw_at lw_m6 71 rfl) rfl
theorem q1364 : (Jvm.Cond.laysFinal "IntervalTreeModel" "IntervalTreeModel" "filterC" "[I") ∈ lw_all := lw_g (lw_at lw_m6 72 rfl) rfl
theorem q1365 : (Jvm.Cond.soleField "IntervalTreeModel" "filterC") ∈ lw_all := lw_g (lw_at lw_m6 73 rfl) rfl
theorem q1366 : (Jvm.Cond.laysFinal "IntervalTreeModel" "IntervalTreeModel" "parts" "[I") ∈ lw_all := lw_g (lw_at lw_m6 74 rfl) rfl
theorem q1367 : (Jvm.Cond.soleField "IntervalTreeModel" "parts") ∈ lw_all := lw_g (lw_at lw_m6 75 rfl) rfl
theorem q1368 : (Jvm.Cond.laysFinal "IntervalTreeModel" "IntervalTreeModel" "partWhat" "[I") ∈ lw_all := lw_g (lw_at lw_m6 76 rfl) rfl
theorem q1369 : (Jvm.Cond.soleField "IntervalTreeModel" "partWhat") ∈ lw_all := lw_g (lw_at lw_m6 77 rfl) rfl
theorem q1370 : (Jvm.Cond.laysFinal "IntervalTreeModel" "IntervalTreeModel" "partBy" "[I") ∈ lw_all := lw_g (lw_at lw_m6 78 rfl) rfl
theorem q1371 : (Jvm.Cond.soleField "IntervalTreeModel" "partBy") ∈ lw_all := lw_g (lw_at lw_m6 79 rfl) rfl
theorem q1372 : (Jvm.Cond.laysFinal "IntervalTreeModel" "IntervalTreeModel" "partNumber" "[I") ∈ lw_all := lw_g (lw_at lw_m6 80 rfl) rfl
theorem q1373 : (Jvm.Cond.soleField "IntervalTreeModel" "partNumber") ∈ lw_all := lw_g (lw_at lw_m6 81 rfl) rfl
theorem q1374 : (Jvm.Cond.laysFinal "IntervalTreeModel" "IntervalTreeModel" "stack" "[Z") ∈ lw_all := lw_g (lw_at lw_m6 82 rfl) rfl
theorem q1375 : (Jvm.Cond.soleField "IntervalTreeModel" "stack") ∈ lw_all := lw_g (lw_at lw_m6 83 rfl) rfl
theorem q1376 : (Jvm.Cond.laysFinal "IntervalTreeModel" "IntervalTreeModel" "text" "[I") ∈ lw_all := lw_g (lw_at lw_m6 84 rfl) rfl
theorem q1377 : (Jvm.Cond.soleField "IntervalTreeModel" "text") ∈ lw_all := lw_g (lw_at lw_m6 85 rfl) rfl
theorem q1378 : (Jvm.Cond.lays "IntervalTreeModel" "IntervalTreeModel" "texted" "I") ∈ lw_all := lw_g (lw_at lw_m6 86 rfl) rfl
theorem q1379 : (Jvm.Cond.soleField "IntervalTreeModel" "texted") ∈ lw_all := lw_g (lw_at lw_m6 87 rfl) rfl
theorem q1380 : (Jvm.Cond.lays "IntervalTreeModel" "IntervalTreeModel" "at" "I") ∈ lw_all := lw_g (lw_at lw_m6 88 rfl) rfl
theorem q1381 : (Jvm.Cond.soleField "IntervalTreeModel" "at") ∈ lw_all := lw_g (lw_at lw_m6 89 rfl) rfl
theorem q1382 : (Jvm.Cond.lays "IntervalTreeModel" "IntervalTreeModel" "references" "I") ∈ lw_all := lw_g (lw_at lw_m6 90 rfl) rfl
theorem q1383 : (Jvm.Cond.soleField "IntervalTreeModel" "references") ∈ lw_all := lw_g (lw_at lw_m6 91 rfl) rfl
theorem q1384 : (Jvm.Cond.lays "IntervalTreeModel" "IntervalTreeModel" "isWrong" "Z") ∈ lw_all := lw_g (lw_at lw_m6 92 rfl) rfl
theorem q1385 : (Jvm.Cond.soleField "IntervalTreeModel" "isWrong") ∈ lw_all := lw_g (lw_at lw_m6 93 rfl) rfl
theorem q1386 : (Jvm.Cond.laysFinal "IntervalTreeModel" "IntervalTreeModel" "isOpen" "[Z") ∈ lw_all := lw_g (lw_at lw_m6 94 rfl) rfl
theorem q1387 : (Jvm.Cond.soleField "IntervalTreeModel" "isOpen") ∈ lw_all := lw_g (lw_at lw_m6 95 rfl) rfl
theorem q1388 : (Jvm.Cond.laysFinal "IntervalTreeModel" "IntervalTreeModel" "cursorFilter" "[I") ∈ lw_all := lw_g (lw_at lw_m6 96 rfl) rfl
theorem q1389 : (Jvm.Cond.soleField "IntervalTreeModel" "cursorFilter") ∈ lw_all := lw_g (lw_at lw_m6 97 rfl) rfl
theorem q1390 : (Jvm.Cond.laysFinal "IntervalTreeModel" "IntervalTreeModel" "cursorLast" "[I") ∈ lw_all := lw_g (lw_at lw_m6 98 rfl) rfl
theorem q1391 : (Jvm.Cond.soleField "IntervalTreeModel" "cursorLast") ∈ lw_all := lw_g (lw_at lw_m6 99 rfl) rfl
theorem q1392 : (Jvm.Cond.lays "IntervalTreeModel" "IntervalTreeModel" "isSaved" "Z") ∈ lw_all := lw_g (lw_at lw_m6 100 rfl) rfl
theorem q1393 : (Jvm.Cond.soleField "IntervalTreeModel" "isSaved") ∈ lw_all := lw_g (lw_at lw_m6 101 rfl) rfl
theorem q1394 : (Jvm.Cond.laysFinal "IntervalTreeModel" "IntervalTreeModel" "lowWas" "[I") ∈ lw_all := lw_g (lw_at lw_m6 102 rfl) rfl
theorem q1395 : (Jvm.Cond.soleField "IntervalTreeModel" "lowWas") ∈ lw_all := lw_g (lw_at lw_m6 103 rfl) rfl
theorem q1396 : (Jvm.Cond.laysFinal "IntervalTreeModel" "IntervalTreeModel" "highWas" "[I") ∈ lw_all := lw_g (lw_at lw_m6 104 rfl) rfl
theorem q1397 : (Jvm.Cond.soleField "IntervalTreeModel" "highWas") ∈ lw_all := lw_g (lw_at lw_m6 105 rfl) rfl
theorem q1398 : (Jvm.Cond.laysFinal "IntervalTreeModel" "IntervalTreeModel" "weightWas" "[I") ∈ lw_all := lw_g (lw_at lw_m6 106 rfl) rfl
theorem q1399 : (Jvm.Cond.soleField "IntervalTreeModel" "weightWas") ∈ lw_all := lw_g (lw_at lw_m6 107 rfl) rfl
theorem q1400 : (Jvm.Cond.laysFinal "IntervalTreeModel" "IntervalTreeModel" "stateWas" "[I") ∈ lw_all := lw_g (lw_at lw_m6 108 rfl) rfl
theorem q1401 : (Jvm.Cond.soleField "IntervalTreeModel" "stateWas") ∈ lw_all := lw_g (lw_at lw_m6 109 rfl) rfl
theorem q1402 : (Jvm.Cond.laysFinal "IntervalTreeModel" "IntervalTreeModel" "leftWas" "[I") ∈ lw_all := lw_g (lw_at lw_m6 110 rfl) rfl
theorem q1403 : (Jvm.Cond.soleField "IntervalTreeModel" "leftWas") ∈ lw_all := lw_g (lw_at lw_m6 111 rfl) rfl
theorem q1404 : (Jvm.Cond.laysFinal "IntervalTreeModel" "IntervalTreeModel" "rightWas" "[I") ∈ lw_all := lw_g (lw_at lw_m6 112 rfl) rfl
theorem q1405 : (Jvm.Cond.soleField "IntervalTreeModel" "rightWas") ∈ lw_all := lw_g (lw_at lw_m6 113 rfl) rfl
theorem q1406 : (Jvm.Cond.laysFinal "IntervalTreeModel" "IntervalTreeModel" "parentWas" "[I") ∈ lw_all := lw_g (lw_at lw_m6 114 rfl) rfl
theorem q1407 : (Jvm.Cond.soleField "IntervalTreeModel" "parentWas") ∈ lw_all := lw_g (lw_at lw_m6 115 rfl) rfl
theorem q1408 : (Jvm.Cond.laysFinal "IntervalTreeModel" "IntervalTreeModel" "numbersWere" "[I") ∈ lw_all := lw_g (lw_at lw_m6 116 rfl) rfl
theorem q1409 : (Jvm.Cond.soleField "IntervalTreeModel" "numbersWere") ∈ lw_all := lw_g (lw_at lw_m6 117 rfl) rfl
theorem q1410 : (Jvm.Cond.laysFinal "IntervalTreeModel" "IntervalTreeModel" "redWas" "[Z") ∈ lw_all := lw_g (lw_at lw_m6 118 rfl) rfl
theorem q1411 : (Jvm.Cond.soleField "IntervalTreeModel" "redWas") ∈ lw_all := lw_g (lw_at lw_m6 119 rfl) rfl
theorem q1412 : (Jvm.Cond.superclass "IntervalTreeModel" "java/lang/Object") ∈ lw_all := lw_g (lw_at lw_m6 120 rfl) rfl
theorem q1414 : (Jvm.Cond.instanceMethod ({ cls := "IntervalTreeModel", name := "insert", desc := "(III)I" } : Jvm.MethodName)) ∈ lw_all := lw_g (lw_at lw_m6 122 rfl) rfl
theorem q1415 : (Jvm.Cond.selects "IntervalTreeModel" ({ cls := "IntervalTreeModel", name := "insert", desc := "(III)I" } : Jvm.MethodName) ({ cls := "IntervalTreeModel", name := "insert", desc := "(III)I" } : Jvm.MethodName)) ∈ lw_all := lw_g (lw_at lw_m6 123 rfl) rfl
theorem q1416 : (Jvm.Cond.code ({ cls := "IntervalTreeModel", name := "insert", desc := "(III)I" } : Jvm.MethodName) prog_10_method_17_code (4 : Nat) (Option.some Jvm.ClassFile.FieldType.int)) ∈ lw_all := lw_g (lw_at lw_m6 124 rfl) rfl
theorem q1417 : (Jvm.Cond.methodLink "IntervalTreeModel" (163 : Nat) ({ cls := "IntervalTreeModel", name := "in", desc := "(III)Z" } : Jvm.MethodName)) ∈ lw_all := lw_g (lw_at lw_m6 125 rfl) rfl
theorem q1418 : (Jvm.Cond.static ({ cls := "IntervalTreeModel", name := "in", desc := "(III)Z" } : Jvm.MethodName)) ∈ lw_all := lw_g (lw_at lw_m6 126 rfl) rfl
theorem q1419 : (Jvm.Cond.code ({ cls := "IntervalTreeModel", name := "in", desc := "(III)Z" } : Jvm.MethodName) prog_10_method_2_code (3 : Nat) (Option.some Jvm.ClassFile.FieldType.boolean)) ∈ lw_all := lw_g (lw_at lw_m6 127 rfl) rfl
theorem q1420 : (Jvm.Cond.methodLink "IntervalTreeModel" (190 : Nat) ({ cls := "IntervalTreeModel", name := "fails", desc := "(I)I" } : Jvm.MethodName)) ∈ lw_all := lw_g (lw_at lw_m6 128 rfl) rfl
theorem q1421 : (Jvm.Cond.privateMethod ({ cls := "IntervalTreeModel", name := "fails", desc := "(I)I" } : Jvm.MethodName)) ∈ lw_tbl := lw_at lw_m6 129 rfl
theorem q1422 : (Jvm.Cond.instanceMethod ({ cls := "IntervalTreeModel", name := "fails", desc := "(I)I" } : Jvm.MethodName)) ∈ lw_all := lw_g (lw_at lw_m6 130 rfl) rfl
theorem q1423 : (Jvm.Cond.code ({ cls := "IntervalTreeModel", name := "fails", desc := "(I)I" } : Jvm.MethodName) prog_10_method_3_code (2 : Nat) (Option.some Jvm.ClassFile.FieldType.int)) ∈ lw_all := lw_g (lw_at lw_m6 131 rfl) rfl
theorem q1424 : (Jvm.Cond.methodLink "IntervalTreeModel" (194 : Nat) ({ cls := "IntervalTreeModel", name := "rebuilds", desc := "()V" } : Jvm.MethodName)) ∈ lw_all := lw_g (lw_at lw_m6 132 rfl) rfl
theorem q1425 : (Jvm.Cond.privateMethod ({ cls := "IntervalTreeModel", name := "rebuilds", desc := "()V" } : Jvm.MethodName)) ∈ lw_tbl := lw_at lw_m6 133 rfl
theorem q1426 : (Jvm.Cond.instanceMethod ({ cls := "IntervalTreeModel", name := "rebuilds", desc := "()V" } : Jvm.MethodName)) ∈ lw_all := lw_g (lw_at lw_m6 134 rfl) rfl
theorem q1427 : (Jvm.Cond.code ({ cls := "IntervalTreeModel", name := "rebuilds", desc := "()V" } : Jvm.MethodName) prog_10_method_16_code (3 : Nat) (Option.none : Option Jvm.ClassFile.FieldType)) ∈ lw_all := lw_g (lw_at lw_m6 135 rfl) rfl
theorem q1428 : (Jvm.Cond.methodLink "IntervalTreeModel" (187 : Nat) ({ cls := "IntervalTreeModel", name := "layRow", desc := "()V" } : Jvm.MethodName)) ∈ lw_all := lw_g (lw_at lw_m6 136 rfl) rfl
theorem q1429 : (Jvm.Cond.privateMethod ({ cls := "IntervalTreeModel", name := "layRow", desc := "()V" } : Jvm.MethodName)) ∈ lw_tbl := lw_at lw_m6 137 rfl
theorem q1430 : (Jvm.Cond.instanceMethod ({ cls := "IntervalTreeModel", name := "layRow", desc := "()V" } : Jvm.MethodName)) ∈ lw_all := lw_g (lw_at lw_m6 138 rfl) rfl
theorem q1431 : (Jvm.Cond.code ({ cls := "IntervalTreeModel", name := "layRow", desc := "()V" } : Jvm.MethodName) prog_10_method_10_code (3 : Nat) (Option.none : Option Jvm.ClassFile.FieldType)) ∈ lw_all := lw_g (lw_at lw_m6 139 rfl) rfl
theorem q1432 : (Jvm.Cond.methodLink "IntervalTreeModel" (171 : Nat) ({ cls := "IntervalTreeModel", name := "isLess", desc := "(II)Z" } : Jvm.MethodName)) ∈ lw_all := lw_g (lw_at lw_m6 140 rfl) rfl
theorem q1433 : (Jvm.Cond.privateMethod ({ cls := "IntervalTreeModel", name := "isLess", desc := "(II)Z" } : Jvm.MethodName)) ∈ lw_tbl := lw_at lw_m6 141 rfl
theorem q1434 : (Jvm.Cond.instanceMethod ({ cls := "IntervalTreeModel", name := "isLess", desc := "(II)Z" } : Jvm.MethodName)) ∈ lw_all := lw_g (lw_at lw_m6 142 rfl) rfl
theorem q1435 : (Jvm.Cond.code ({ cls := "IntervalTreeModel", name := "isLess", desc := "(II)Z" } : Jvm.MethodName) prog_10_method_9_code (3 : Nat) (Option.some Jvm.ClassFile.FieldType.boolean)) ∈ lw_all := lw_g (lw_at lw_m6 143 rfl) rfl
theorem q1436 : (Jvm.Cond.methodLink "IntervalTreeModel" (183 : Nat) ({ cls := "IntervalTreeModel", name := "built", desc := "(IIII)I" } : Jvm.MethodName)) ∈ lw_all := lw_g (lw_at lw_m6 144 rfl) rfl
theorem q1437 : (Jvm.Cond.privateMethod ({ cls := "IntervalTreeModel", name := "built", desc := "(IIII)I" } : Jvm.MethodName)) ∈ lw_tbl := lw_at lw_m6 145 rfl
theorem q1438 : (Jvm.Cond.instanceMethod ({ cls := "IntervalTreeModel", name := "built", desc := "(IIII)I" } : Jvm.MethodName)) ∈ lw_all := lw_g (lw_at lw_m6 146 rfl) rfl
theorem q1439 : (Jvm.Cond.code ({ cls := "IntervalTreeModel", name := "built", desc := "(IIII)I" } : Jvm.MethodName) prog_10_method_15_code (7 : Nat) (Option.some Jvm.ClassFile.FieldType.int)) ∈ lw_all := lw_g (lw_at lw_m6 147 rfl) rfl
theorem q1440 : (Jvm.Cond.methodLink "IntervalTreeModel" (196 : Nat) ({ cls := "IntervalTreeModel", name := "hangsNew", desc := "(I)V" } : Jvm.MethodName)) ∈ lw_all := lw_g (lw_at lw_m6 148 rfl) rfl
theorem q1441 : (Jvm.Cond.privateMethod ({ cls := "IntervalTreeModel", name := "hangsNew", desc := "(I)V" } : Jvm.MethodName)) ∈ lw_tbl := lw_at lw_m6 149 rfl
theorem q1442 : (Jvm.Cond.instanceMethod ({ cls := "IntervalTreeModel", name := "hangsNew", desc := "(I)V" } : Jvm.MethodName)) ∈ lw_all := lw_g (lw_at lw_m6 150 rfl) rfl
theorem q1443 : (Jvm.Cond.code ({ cls := "IntervalTreeModel", name := "hangsNew", desc := "(I)V" } : Jvm.MethodName) prog_10_method_13_code (4 : Nat) (Option.none : Option Jvm.ClassFile.FieldType)) ∈ lw_all := lw_g (lw_at lw_m6 151 rfl) rfl
theorem q1444 : (Jvm.Cond.methodLink "IntervalTreeModel" (199 : Nat) ({ cls := "IntervalTreeModel", name := "mends", desc := "(I)V" } : Jvm.MethodName)) ∈ lw_all := lw_g (lw_at lw_m6 152 rfl) rfl
theorem q1445 : (Jvm.Cond.privateMethod ({ cls := "IntervalTreeModel", name := "mends", desc := "(I)V" } : Jvm.MethodName)) ∈ lw_tbl := lw_at lw_m6 153 rfl
theorem q1446 : (Jvm.Cond.instanceMethod ({ cls := "IntervalTreeModel", name := "mends", desc := "(I)V" } : Jvm.MethodName)) ∈ lw_all := lw_g (lw_at lw_m6 154 rfl) rfl
theorem q1447 : (Jvm.Cond.code ({ cls := "IntervalTreeModel", name := "mends", desc := "(I)V" } : Jvm.MethodName) prog_10_method_14_code (7 : Nat) (Option.none : Option Jvm.ClassFile.FieldType)) ∈ lw_all := lw_g (lw_at lw_m6 155 rfl) rfl
theorem q1448 : (Jvm.Cond.methodLink "IntervalTreeModel" (179 : Nat) ({ cls := "IntervalTreeModel", name := "rises", desc := "(I)V" } : Jvm.MethodName)) ∈ lw_all := lw_g (lw_at lw_m6 156 rfl) rfl
theorem q1449 : (Jvm.Cond.privateMethod ({ cls := "IntervalTreeModel", name := "rises", desc := "(I)V" } : Jvm.MethodName)) ∈ lw_tbl := lw_at lw_m6 157 rfl
theorem q1450 : (Jvm.Cond.instanceMethod ({ cls := "IntervalTreeModel", name := "rises", desc := "(I)V" } : Jvm.MethodName)) ∈ lw_all := lw_g (lw_at lw_m6 158 rfl) rfl
theorem q1451 : (Jvm.Cond.code ({ cls := "IntervalTreeModel", name := "rises", desc := "(I)V" } : Jvm.MethodName) prog_10_method_12_code (4 : Nat) (Option.none : Option Jvm.ClassFile.FieldType)) ∈ lw_all := lw_g (lw_at lw_m6 159 rfl) rfl
theorem q1452 : (Jvm.Cond.methodLink "IntervalTreeModel" (175 : Nat) ({ cls := "IntervalTreeModel", name := "hangs", desc := "(III)V" } : Jvm.MethodName)) ∈ lw_all := lw_g (lw_at lw_m6 160 rfl) rfl
theorem q1453 : (Jvm.Cond.privateMethod ({ cls := "IntervalTreeModel", name := "hangs", desc := "(III)V" } : Jvm.MethodName)) ∈ lw_tbl := lw_at lw_m6 161 rfl
theorem q1454 : (Jvm.Cond.instanceMethod ({ cls := "IntervalTreeModel", name := "hangs", desc := "(III)V" } : Jvm.MethodName)) ∈ lw_all := lw_g (lw_at lw_m6 162 rfl) rfl
theorem q1455 : (Jvm.Cond.code ({ cls := "IntervalTreeModel", name := "hangs", desc := "(III)V" } : Jvm.MethodName) prog_10_method_11_code (4 : Nat) (Option.none : Option Jvm.ClassFile.FieldType)) ∈ lw_all := lw_g (lw_at lw_m6 163 rfl) rfl
theorem q1457 : (Jvm.Cond.instanceMethod ({ cls := "IntervalTreeModel", name := "remove", desc := "(I)I" } : Jvm.MethodName)) ∈ lw_all := lw_g (lw_at lw_m6 165 rfl) rfl
theorem q1458 : (Jvm.Cond.selects "IntervalTreeModel" ({ cls := "IntervalTreeModel", name := "remove", desc := "(I)I" } : Jvm.MethodName) ({ cls := "IntervalTreeModel", name := "remove", desc := "(I)I" } : Jvm.MethodName)) ∈ lw_all := lw_g (lw_at lw_m6 166 rfl) rfl
theorem q1459 : (Jvm.Cond.code ({ cls := "IntervalTreeModel", name := "remove", desc := "(I)I" } : Jvm.MethodName) prog_10_method_19_code (2 : Nat) (Option.some Jvm.ClassFile.FieldType.int)) ∈ lw_all := lw_g (lw_at lw_m6 167 rfl) rfl
theorem q1460 : (Jvm.Cond.methodLink "IntervalTreeModel" (206 : Nat) ({ cls := "IntervalTreeModel", name := "isLive", desc := "(I)Z" } : Jvm.MethodName)) ∈ lw_all := lw_g (lw_at lw_m6 168 rfl) rfl
theorem q1461 : (Jvm.Cond.privateMethod ({ cls := "IntervalTreeModel", name := "isLive", desc := "(I)Z" } : Jvm.MethodName)) ∈ lw_tbl := lw_at lw_m6 169 rfl
theorem q1462 : (Jvm.Cond.instanceMethod ({ cls := "IntervalTreeModel", name := "isLive", desc := "(I)Z" } : Jvm.MethodName)) ∈ lw_all := lw_g (lw_at lw_m6 170 rfl) rfl
theorem q1463 : (Jvm.Cond.code ({ cls := "IntervalTreeModel", name := "isLive", desc := "(I)Z" } : Jvm.MethodName) prog_10_method_6_code (2 : Nat) (Option.some Jvm.ClassFile.FieldType.boolean)) ∈ lw_all := lw_g (lw_at lw_m6 171 rfl) rfl
theorem q1464 : (Jvm.Cond.methodLink "IntervalTreeModel" (167 : Nat) ({ cls := "IntervalTreeModel", name := "isInserted", desc := "(I)Z" } : Jvm.MethodName)) ∈ lw_all := lw_g (lw_at lw_m6 172 rfl) rfl
theorem q1465 : (Jvm.Cond.privateMethod ({ cls := "IntervalTreeModel", name := "isInserted", desc := "(I)Z" } : Jvm.MethodName)) ∈ lw_tbl := lw_at lw_m6 173 rfl
theorem q1466 : (Jvm.Cond.instanceMethod ({ cls := "IntervalTreeModel", name := "isInserted", desc := "(I)Z" } : Jvm.MethodName)) ∈ lw_all := lw_g (lw_at lw_m6 174 rfl) rfl
theorem q1467 : (Jvm.Cond.code ({ cls := "IntervalTreeModel", name := "isInserted", desc := "(I)Z" } : Jvm.MethodName) prog_10_method_5_code (2 : Nat) (Option.some Jvm.ClassFile.FieldType.boolean)) ∈ lw_all := lw_g (lw_at lw_m6 175 rfl) rfl
theorem q1468 : (Jvm.Cond.methodLink "IntervalTreeModel" (209 : Nat) ({ cls := "IntervalTreeModel", name := "goes", desc := "(I)I" } : Jvm.MethodName)) ∈ lw_all := lw_g (lw_at lw_m6 176 rfl) rfl
theorem q1469 : (Jvm.Cond.privateMethod ({ cls := "IntervalTreeModel", name := "goes", desc := "(I)I" } : Jvm.MethodName)) ∈ lw_tbl := lw_at lw_m6 177 rfl
theorem q1470 : (Jvm.Cond.instanceMethod ({ cls := "IntervalTreeModel", name := "goes", desc := "(I)I" } : Jvm.MethodName)) ∈ lw_all := lw_g (lw_at lw_m6 178 rfl) rfl
theorem q1471 : (Jvm.Cond.code ({ cls := "IntervalTreeModel", name := "goes", desc := "(I)I" } : Jvm.MethodName) prog_10_method_18_code (2 : Nat) (Option.some Jvm.ClassFile.FieldType.int)) ∈ lw_all := lw_g (lw_at lw_m6 179 rfl) rfl
theorem q1472 : (Jvm.Cond.methodLink "IntervalTreeModel" (202 : Nat) ({ cls := "IntervalTreeModel", name := "live", desc := "()I" } : Jvm.MethodName)) ∈ lw_all := lw_g (lw_at lw_m6 180 rfl) rfl
theorem q1473 : (Jvm.Cond.privateMethod ({ cls := "IntervalTreeModel", name := "live", desc := "()I" } : Jvm.MethodName)) ∈ lw_tbl := lw_at lw_m6 181 rfl
theorem q1474 : (Jvm.Cond.instanceMethod ({ cls := "IntervalTreeModel", name := "live", desc := "()I" } : Jvm.MethodName)) ∈ lw_all := lw_g (lw_at lw_m6 182 rfl) rfl
theorem q1475 : (Jvm.Cond.code ({ cls := "IntervalTreeModel", name := "live", desc := "()I" } : Jvm.MethodName) prog_10_method_8_code (1 : Nat) (Option.some Jvm.ClassFile.FieldType.int)) ∈ lw_all := lw_g (lw_at lw_m6 183 rfl) rfl
theorem q1477 : (Jvm.Cond.instanceMethod ({ cls := "IntervalTreeModel", name := "restore", desc := "(I)I" } : Jvm.MethodName)) ∈ lw_all := lw_g (lw_at lw_m6 185 rfl) rfl
theorem q1478 : (Jvm.Cond.selects "IntervalTreeModel" ({ cls := "IntervalTreeModel", name := "restore", desc := "(I)I" } : Jvm.MethodName) ({ cls := "IntervalTreeModel", name := "restore", desc := "(I)I" } : Jvm.MethodName)) ∈ lw_all := lw_g (lw_at lw_m6 186 rfl) rfl
theorem q1479 : (Jvm.Cond.code ({ cls := "IntervalTreeModel", name := "restore", desc := "(I)I" } : Jvm.MethodName) prog_10_method_20_code (2 : Nat) (Option.some Jvm.ClassFile.FieldType.int)) ∈ lw_all := lw_g (lw_at lw_m6 187 rfl) rfl
theorem q1481 : (Jvm.Cond.instanceMethod ({ cls := "IntervalTreeModel", name := "rebuild", desc := "()I" } : Jvm.MethodName)) ∈ lw_all := lw_g (lw_at lw_m6 189 rfl) rfl
theorem q1482 : (Jvm.Cond.selects "IntervalTreeModel" ({ cls := "IntervalTreeModel", name := "rebuild", desc := "()I" } : Jvm.MethodName) ({ cls := "IntervalTreeModel", name := "rebuild", desc := "()I" } : Jvm.MethodName)) ∈ lw_all := lw_g (lw_at lw_m6 190 rfl) rfl
theorem q1483 : (Jvm.Cond.code ({ cls := "IntervalTreeModel", name := "rebuild", desc := "()I" } : Jvm.MethodName) prog_10_method_21_code (2 : Nat) (Option.some Jvm.ClassFile.FieldType.int)) ∈ lw_all := lw_g (lw_at lw_m6 191 rfl) rfl
theorem q1485 : (Jvm.Cond.instanceMethod ({ cls := "IntervalTreeModel", name := "setRebuildPercentage", desc := "(I)I" } : Jvm.MethodName)) ∈ lw_all := lw_g (lw_at lw_m6 193 rfl) rfl
theorem q1486 : (Jvm.Cond.selects "IntervalTreeModel" ({ cls := "IntervalTreeModel", name := "setRebuildPercentage", desc := "(I)I" } : Jvm.MethodName) ({ cls := "IntervalTreeModel", name := "setRebuildPercentage", desc := "(I)I" } : Jvm.MethodName)) ∈ lw_all := lw_g (lw_at lw_m6 194 rfl) rfl
theorem q1487 : (Jvm.Cond.code ({ cls := "IntervalTreeModel", name := "setRebuildPercentage", desc := "(I)I" } : Jvm.MethodName) prog_10_method_22_code (3 : Nat) (Option.some Jvm.ClassFile.FieldType.int)) ∈ lw_all := lw_g (lw_at lw_m6 195 rfl) rfl
theorem q1489 : (Jvm.Cond.instanceMethod ({ cls := "IntervalTreeModel", name := "addWeight", desc := "(III)I" } : Jvm.MethodName)) ∈ lw_all := lw_g (lw_at lw_m6 197 rfl) rfl
theorem q1490 : (Jvm.Cond.selects "IntervalTreeModel" ({ cls := "IntervalTreeModel", name := "addWeight", desc := "(III)I" } : Jvm.MethodName) ({ cls := "IntervalTreeModel", name := "addWeight", desc := "(III)I" } : Jvm.MethodName)) ∈ lw_all := lw_g (lw_at lw_m6 198 rfl) rfl
theorem q1491 : (Jvm.Cond.code ({ cls := "IntervalTreeModel", name := "addWeight", desc := "(III)I" } : Jvm.MethodName) prog_10_method_23_code (6 : Nat) (Option.some Jvm.ClassFile.FieldType.int)) ∈ lw_all := lw_g (lw_at lw_m6 199 rfl) rfl
theorem q1493 : (Jvm.Cond.instanceMethod ({ cls := "IntervalTreeModel", name := "size", desc := "()I" } : Jvm.MethodName)) ∈ lw_all := lw_g (lw_at lw_m6 201 rfl) rfl
theorem q1494 : (Jvm.Cond.selects "IntervalTreeModel" ({ cls := "IntervalTreeModel", name := "size", desc := "()I" } : Jvm.MethodName) ({ cls := "IntervalTreeModel", name := "size", desc := "()I" } : Jvm.MethodName)) ∈ lw_all := lw_g (lw_at lw_m6 202 rfl) rfl
theorem q1495 : (Jvm.Cond.code ({ cls := "IntervalTreeModel", name := "size", desc := "()I" } : Jvm.MethodName) prog_10_method_24_code (1 : Nat) (Option.some Jvm.ClassFile.FieldType.int)) ∈ lw_all := lw_g (lw_at lw_m6 203 rfl) rfl
theorem q1497 : (Jvm.Cond.instanceMethod ({ cls := "IntervalTreeModel", name := "nodeCount", desc := "()I" } : Jvm.MethodName)) ∈ lw_all := lw_g (lw_at lw_m6 205 rfl) rfl
theorem q1498 : (Jvm.Cond.selects "IntervalTreeModel" ({ cls := "IntervalTreeModel", name := "nodeCount", desc := "()I" } : Jvm.MethodName) ({ cls := "IntervalTreeModel", name := "nodeCount", desc := "()I" } : Jvm.MethodName)) ∈ lw_all := lw_g (lw_at lw_m6 206 rfl) rfl
theorem q1499 : (Jvm.Cond.code ({ cls := "IntervalTreeModel", name := "nodeCount", desc := "()I" } : Jvm.MethodName) prog_10_method_25_code (1 : Nat) (Option.some Jvm.ClassFile.FieldType.int)) ∈ lw_all := lw_g (lw_at lw_m6 207 rfl) rfl
theorem q1501 : (Jvm.Cond.instanceMethod ({ cls := "IntervalTreeModel", name := "height", desc := "()I" } : Jvm.MethodName)) ∈ lw_all := lw_g (lw_at lw_m6 209 rfl) rfl
theorem q1502 : (Jvm.Cond.selects "IntervalTreeModel" ({ cls := "IntervalTreeModel", name := "height", desc := "()I" } : Jvm.MethodName) ({ cls := "IntervalTreeModel", name := "height", desc := "()I" } : Jvm.MethodName)) ∈ lw_all := lw_g (lw_at lw_m6 210 rfl) rfl
theorem q1503 : (Jvm.Cond.code ({ cls := "IntervalTreeModel", name := "height", desc := "()I" } : Jvm.MethodName) prog_10_method_27_code (1 : Nat) (Option.some Jvm.ClassFile.FieldType.int)) ∈ lw_all := lw_g (lw_at lw_m6 211 rfl) rfl
theorem q1504 : (Jvm.Cond.methodLink "IntervalTreeModel" (212 : Nat) ({ cls := "IntervalTreeModel", name := "heightOf", desc := "(I)I" } : Jvm.MethodName)) ∈ lw_all := lw_g (lw_at lw_m6 212 rfl) rfl
theorem q1505 : (Jvm.Cond.privateMethod ({ cls := "IntervalTreeModel", name := "heightOf", desc := "(I)I" } : Jvm.MethodName)) ∈ lw_tbl := lw_at lw_m6 213 rfl
theorem q1506 : (Jvm.Cond.instanceMethod ({ cls := "IntervalTreeModel", name := "heightOf", desc := "(I)I" } : Jvm.MethodName)) ∈ lw_all := lw_g (lw_at lw_m6 214 rfl) rfl
theorem q1507 : (Jvm.Cond.code ({ cls := "IntervalTreeModel", name := "heightOf", desc := "(I)I" } : Jvm.MethodName) prog_10_method_26_code (2 : Nat) (Option.some Jvm.ClassFile.FieldType.int)) ∈ lw_all := lw_g (lw_at lw_m6 215 rfl) rfl
theorem q1508 : (Jvm.Cond.methodLink "IntervalTreeModel" (215 : Nat) ({ cls := "java/lang/Math", name := "max", desc := "(II)I" } : Jvm.MethodName)) ∈ lw_all := lw_g (lw_at lw_m6 216 rfl) rfl
theorem q1510 : (Jvm.Cond.instanceMethod ({ cls := "IntervalTreeModel", name := "rebuildCount", desc := "()I" } : Jvm.MethodName)) ∈ lw_all := lw_g (lw_at lw_m6 218 rfl) rfl
theorem q1511 : (Jvm.Cond.selects "IntervalTreeModel" ({ cls := "IntervalTreeModel", name := "rebuildCount", desc := "()I" } : Jvm.MethodName) ({ cls := "IntervalTreeModel", name := "rebuildCount", desc := "()I" } : Jvm.MethodName)) ∈ lw_all := lw_g (lw_at lw_m6 219 rfl) rfl
theorem q1512 : (Jvm.Cond.code ({ cls := "IntervalTreeModel", name := "rebuildCount", desc := "()I" } : Jvm.MethodName) prog_10_method_28_code (1 : Nat) (Option.some Jvm.ClassFile.FieldType.int)) ∈ lw_all := lw_g (lw_at lw_m6 220 rfl) rfl
theorem q1514 : (Jvm.Cond.instanceMethod ({ cls := "IntervalTreeModel", name := "rebuiltNodes", desc := "()I" } : Jvm.MethodName)) ∈ lw_all := lw_g (lw_at lw_m6 222 rfl) rfl
theorem q1515 : (Jvm.Cond.selects "IntervalTreeModel" ({ cls := "IntervalTreeModel", name := "rebuiltNodes", desc := "()I" } : Jvm.MethodName) ({ cls := "IntervalTreeModel", name := "rebuiltNodes", desc := "()I" } : Jvm.MethodName)) ∈ lw_all := lw_g (lw_at lw_m6 223 rfl) rfl
theorem q1516 : (Jvm.Cond.code ({ cls := "IntervalTreeModel", name := "rebuiltNodes", desc := "()I" } : Jvm.MethodName) prog_10_method_29_code (1 : Nat) (Option.some Jvm.ClassFile.FieldType.int)) ∈ lw_all := lw_g (lw_at lw_m6 224 rfl) rfl
theorem q1518 : (Jvm.Cond.instanceMethod ({ cls := "IntervalTreeModel", name := "state", desc := "(I)I" } : Jvm.MethodName)) ∈ lw_all := lw_g (lw_at lw_m6 226 rfl) rfl
theorem q1519 : (Jvm.Cond.selects "IntervalTreeModel" ({ cls := "IntervalTreeModel", name := "state", desc := "(I)I" } : Jvm.MethodName) ({ cls := "IntervalTreeModel", name := "state", desc := "(I)I" } : Jvm.MethodName)) ∈ lw_all := lw_g (lw_at lw_m6 227 rfl) rfl
theorem q1520 : (Jvm.Cond.code ({ cls := "IntervalTreeModel", name := "state", desc := "(I)I" } : Jvm.MethodName) prog_10_method_30_code (2 : Nat) (Option.some Jvm.ClassFile.FieldType.int)) ∈ lw_all := lw_g (lw_at lw_m6 228 rfl) rfl
theorem q1522 : (Jvm.Cond.instanceMethod ({ cls := "IntervalTreeModel", name := "low", desc := "(I)I" } : Jvm.MethodName)) ∈ lw_all := lw_g (lw_at lw_m6 230 rfl) rfl
theorem q1523 : (Jvm.Cond.selects "IntervalTreeModel" ({ cls := "IntervalTreeModel", name := "low", desc := "(I)I" } : Jvm.MethodName) ({ cls := "IntervalTreeModel", name := "low", desc := "(I)I" } : Jvm.MethodName)) ∈ lw_all := lw_g (lw_at lw_m6 231 rfl) rfl
theorem q1524 : (Jvm.Cond.code ({ cls := "IntervalTreeModel", name := "low", desc := "(I)I" } : Jvm.MethodName) prog_10_method_31_code (2 : Nat) (Option.some Jvm.ClassFile.FieldType.int)) ∈ lw_all := lw_g (lw_at lw_m6 232 rfl) rfl
theorem q1525 : (Jvm.Cond.methodLink "IntervalTreeModel" (221 : Nat) ({ cls := "IntervalTreeModel", name := "isInTree", desc := "(I)Z" } : Jvm.MethodName)) ∈ lw_all := lw_g (lw_at lw_m6 233 rfl) rfl
theorem q1526 : (Jvm.Cond.privateMethod ({ cls := "IntervalTreeModel", name := "isInTree", desc := "(I)Z" } : Jvm.MethodName)) ∈ lw_tbl := lw_at lw_m6 234 rfl
theorem q1527 : (Jvm.Cond.instanceMethod ({ cls := "IntervalTreeModel", name := "isInTree", desc := "(I)Z" } : Jvm.MethodName)) ∈ lw_all := lw_g (lw_at lw_m6 235 rfl) rfl
theorem q1528 : (Jvm.Cond.code ({ cls := "IntervalTreeModel", name := "isInTree", desc := "(I)Z" } : Jvm.MethodName) prog_10_method_7_code (2 : Nat) (Option.some Jvm.ClassFile.FieldType.boolean)) ∈ lw_all := lw_g (lw_at lw_m6 236 rfl) rfl
theorem q1530 : (Jvm.Cond.instanceMethod ({ cls := "IntervalTreeModel", name := "high", desc := "(I)I" } : Jvm.MethodName)) ∈ lw_all := lw_g (lw_at lw_m6 238 rfl) rfl
theorem q1531 : (Jvm.Cond.selects "IntervalTreeModel" ({ cls := "IntervalTreeModel", name := "high", desc := "(I)I" } : Jvm.MethodName) ({ cls := "IntervalTreeModel", name := "high", desc := "(I)I" } : Jvm.MethodName)) ∈ lw_all := lw_g (lw_at lw_m6 239 rfl) rfl
theorem q1532 : (Jvm.Cond.code ({ cls := "IntervalTreeModel", name := "high", desc := "(I)I" } : Jvm.MethodName) prog_10_method_32_code (2 : Nat) (Option.some Jvm.ClassFile.FieldType.int)) ∈ lw_all := lw_g (lw_at lw_m7 0 rfl) rfl
theorem q1534 : (Jvm.Cond.instanceMethod ({ cls := "IntervalTreeModel", name := "weight", desc := "(I)I" } : Jvm.MethodName)) ∈ lw_all := lw_g (lw_at lw_m7 2 rfl) rfl
theorem q1535 : (Jvm.Cond.selects "IntervalTreeModel" ({ cls := "IntervalTreeModel", name := "weight", desc := "(I)I" } : Jvm.MethodName) ({ cls := "IntervalTreeModel", name := "weight", desc := "(I)I" } : Jvm.MethodName)) ∈ lw_all := lw_g (lw_at lw_m7 3 rfl) rfl
theorem q1536 : (Jvm.Cond.code ({ cls := "IntervalTreeModel", name := "weight", desc := "(I)I" } : Jvm.MethodName) prog_10_method_33_code (2 : Nat) (Option.some Jvm.ClassFile.FieldType.int)) ∈ lw_all := lw_g (lw_at lw_m7 4 rfl) rfl
theorem q1538 : (Jvm.Cond.instanceMethod ({ cls := "IntervalTreeModel", name := "parent", desc := "(I)I" } : Jvm.MethodName)) ∈ lw_all := lw_g (lw_at lw_m7 6 rfl) rfl
theorem q1539 : (Jvm.Cond.selects "IntervalTreeModel" ({ cls := "IntervalTreeModel", name := "parent", desc := "(I)I" } : Jvm.MethodName) ({ cls := "IntervalTreeModel", name := "parent", desc := "(I)I" } : Jvm.MethodName)) ∈ lw_all := lw_g (lw_at lw_m7 7 rfl) rfl
theorem q1540 : (Jvm.Cond.code ({ cls := "IntervalTreeModel", name := "parent", desc := "(I)I" } : Jvm.MethodName) prog_10_method_34_code (2 : Nat) (Option.some Jvm.ClassFile.FieldType.int)) ∈ lw_all := lw_g (lw_at lw_m7 8 rfl) rfl
theorem q1542 : (Jvm.Cond.instanceMethod ({ cls := "IntervalTreeModel", name := "child", desc := "(IZ)I" } : Jvm.MethodName)) ∈ lw_all := lw_g (lw_at lw_m7 10 rfl) rfl
theorem q1543 : (Jvm.Cond.selects "IntervalTreeModel" ({ cls := "IntervalTreeModel", name := "child", desc := "(IZ)I" } : Jvm.MethodName) ({ cls := "IntervalTreeModel", name := "child", desc := "(IZ)I" } : Jvm.MethodName)) ∈ lw_all := lw_g (lw_at lw_m7 11 rfl) rfl
theorem q1544 : (Jvm.Cond.code ({ cls := "IntervalTreeModel", name := "child", desc := "(IZ)I" } : Jvm.MethodName) prog_10_method_35_code (3 : Nat) (Option.some Jvm.ClassFile.FieldType.int)) ∈ lw_all := lw_g (lw_at lw_m7 12 rfl) rfl
theorem q1546 : (Jvm.Cond.instanceMethod ({ cls := "IntervalTreeModel", name := "isRed", desc := "(I)Z" } : Jvm.MethodName)) ∈ lw_all := lw_g (lw_at lw_m7 14 rfl) rfl
theorem q1547 : (Jvm.Cond.selects "IntervalTreeModel" ({ cls := "IntervalTreeModel", name := "isRed", desc := "(I)Z" } : Jvm.MethodName) ({ cls := "IntervalTreeModel", name := "isRed", desc := "(I)Z" } : Jvm.MethodName)) ∈ lw_all := lw_g (lw_at lw_m7 15 rfl) rfl
theorem q1548 : (Jvm.Cond.code ({ cls := "IntervalTreeModel", name := "isRed", desc := "(I)Z" } : Jvm.MethodName) prog_10_method_36_code (2 : Nat) (Option.some Jvm.ClassFile.FieldType.boolean)) ∈ lw_all := lw_g (lw_at lw_m7 16 rfl) rfl
theorem q1550 : (Jvm.Cond.instanceMethod ({ cls := "IntervalTreeModel", name := "subtreeSize", desc := "(I)I" } : Jvm.MethodName)) ∈ lw_all := lw_g (lw_at lw_m7 18 rfl) rfl
theorem q1551 : (Jvm.Cond.selects "IntervalTreeModel" ({ cls := "IntervalTreeModel", name := "subtreeSize", desc := "(I)I" } : Jvm.MethodName) ({ cls := "IntervalTreeModel", name := "subtreeSize", desc := "(I)I" } : Jvm.MethodName)) ∈ lw_all := lw_g (lw_at lw_m7 19 rfl) rfl
theorem q1552 : (Jvm.Cond.code ({ cls := "IntervalTreeModel", name := "subtreeSize", desc := "(I)I" } : Jvm.MethodName) prog_10_method_39_code (2 : Nat) (Option.some Jvm.ClassFile.FieldType.int)) ∈ lw_all := lw_g (lw_at lw_m7 20 rfl) rfl
theorem q1553 : (Jvm.Cond.methodLink "IntervalTreeModel" (224 : Nat) ({ cls := "IntervalTreeModel", name := "sizeOf", desc := "(I)I" } : Jvm.MethodName)) ∈ lw_all := lw_g (lw_at lw_m7 21 rfl) rfl
theorem q1554 : (Jvm.Cond.privateMethod ({ cls := "IntervalTreeModel", name := "sizeOf", desc := "(I)I" } : Jvm.MethodName)) ∈ lw_tbl := lw_at lw_m7 22 rfl
theorem q1555 : (Jvm.Cond.instanceMethod ({ cls := "IntervalTreeModel", name := "sizeOf", desc := "(I)I" } : Jvm.MethodName)) ∈ lw_all := lw_g (lw_at lw_m7 23 rfl) rfl
theorem q1556 : (Jvm.Cond.code ({ cls := "IntervalTreeModel", name := "sizeOf", desc := "(I)I" } : Jvm.MethodName) prog_10_method_37_code (2 : Nat) (Option.some Jvm.ClassFile.FieldType.int)) ∈ lw_all := lw_g (lw_at lw_m7 24 rfl) rfl
theorem q1558 : (Jvm.Cond.instanceMethod ({ cls := "IntervalTreeModel", name := "subtreeHigh", desc := "(I)I" } : Jvm.MethodName)) ∈ lw_all := lw_g (lw_at lw_m7 26 rfl) rfl
theorem q1559 : (Jvm.Cond.selects "IntervalTreeModel" ({ cls := "IntervalTreeModel", name := "subtreeHigh", desc := "(I)I" } : Jvm.MethodName) ({ cls := "IntervalTreeModel", name := "subtreeHigh", desc := "(I)I" } : Jvm.MethodName)) ∈ lw_all := lw_g (lw_at lw_m7 27 rfl) rfl
theorem q1560 : (Jvm.Cond.code ({ cls := "IntervalTreeModel", name := "subtreeHigh", desc := "(I)I" } : Jvm.MethodName) prog_10_method_41_code (2 : Nat) (Option.some Jvm.ClassFile.FieldType.int)) ∈ lw_all := lw_g (lw_at lw_m7 28 rfl) rfl
theorem q1561 : (Jvm.Cond.methodLink "IntervalTreeModel" (237 : Nat) ({ cls := "IntervalTreeModel", name := "greatestOf", desc := "(IZ)I" } : Jvm.MethodName)) ∈ lw_all := lw_g (lw_at lw_m7 29 rfl) rfl
theorem q1562 : (Jvm.Cond.privateMethod ({ cls := "IntervalTreeModel", name := "greatestOf", desc := "(IZ)I" } : Jvm.MethodName)) ∈ lw_tbl := lw_at lw_m7 30 rfl
theorem q1563 : (Jvm.Cond.instanceMethod ({ cls := "IntervalTreeModel", name := "greatestOf", desc := "(IZ)I" } : Jvm.MethodName)) ∈ lw_all := lw_g (lw_at lw_m7 31 rfl) rfl
theorem q1564 : (Jvm.Cond.code ({ cls := "IntervalTreeModel", name := "greatestOf", desc := "(IZ)I" } : Jvm.MethodName) prog_10_method_40_code (3 : Nat) (Option.some Jvm.ClassFile.FieldType.int)) ∈ lw_all := lw_g (lw_at lw_m7 32 rfl) rfl
theorem q1565 : (Jvm.Cond.constant "IntervalTreeModel" (236 : Nat) (-2147483648 : Int32)) ∈ lw_all := lw_g (lw_at lw_m7 33 rfl) rfl
theorem q1566 : (Jvm.Cond.methodLink "IntervalTreeModel" (230 : Nat) ({ cls := "IntervalTreeModel", name := "greatest", desc := "(IZ)V" } : Jvm.MethodName)) ∈ lw_all := lw_g (lw_at lw_m7 34 rfl) rfl
theorem q1567 : (Jvm.Cond.privateMethod ({ cls := "IntervalTreeModel", name := "greatest", desc := "(IZ)V" } : Jvm.MethodName)) ∈ lw_tbl := lw_at lw_m7 35 rfl
theorem q1568 : (Jvm.Cond.instanceMethod ({ cls := "IntervalTreeModel", name := "greatest", desc := "(IZ)V" } : Jvm.MethodName)) ∈ lw_all := lw_g (lw_at lw_m7 36 rfl) rfl
theorem q1569 : (Jvm.Cond.code ({ cls := "IntervalTreeModel", name := "greatest", desc := "(IZ)V" } : Jvm.MethodName) prog_10_method_38_code (3 : Nat) (Option.none : Option Jvm.ClassFile.FieldType)) ∈ lw_all := lw_g (lw_at lw_m7 37 rfl) rfl
theorem q1571 : (Jvm.Cond.instanceMethod ({ cls := "IntervalTreeModel", name := "subtreeWeight", desc := "(I)I" } : Jvm.MethodName)) ∈ lw_all := lw_g (lw_at lw_m7 39 rfl) rfl
theorem q1572 : (Jvm.Cond.selects "IntervalTreeModel" ({ cls := "IntervalTreeModel", name := "subtreeWeight", desc := "(I)I" } : Jvm.MethodName) ({ cls := "IntervalTreeModel", name := "subtreeWeight", desc := "(I)I" } : Jvm.MethodName)) ∈ lw_all := lw_g (lw_at lw_m7 40 rfl) rfl
theorem q1573 : (Jvm.Cond.code ({ cls := "IntervalTreeModel", name := "subtreeWeight", desc := "(I)I" } : Jvm.MethodName) prog_10_method_42_code (2 : Nat) (Option.some Jvm.ClassFile.FieldType.int)) ∈ lw_all := lw_g (lw_at lw_m7 41 rfl) rfl
theorem q1575 : (Jvm.Cond.instanceMethod ({ cls := "IntervalTreeModel", name := "digest", desc := "()I" } : Jvm.MethodName)) ∈ lw_all := lw_g (lw_at lw_m7 43 rfl) rfl
theorem q1576 : (Jvm.Cond.selects "IntervalTreeModel" ({ cls := "IntervalTreeModel", name := "digest", desc := "()I" } : Jvm.MethodName) ({ cls := "IntervalTreeModel", name := "digest", desc := "()I" } : Jvm.MethodName)) ∈ lw_all := lw_g (lw_at lw_m7 44 rfl) rfl
theorem q1577 : (Jvm.Cond.code ({ cls := "IntervalTreeModel", name := "digest", desc := "()I" } : Jvm.MethodName) prog_10_method_45_code (1 : Nat) (Option.some Jvm.ClassFile.FieldType.int)) ∈ lw_all := lw_g (lw_at lw_m7 45 rfl) rfl
theorem q1578 : (Jvm.Cond.methodLink "IntervalTreeModel" (248 : Nat) ({ cls := "IntervalTreeModel", name := "visits", desc := "(I)V" } : Jvm.MethodName)) ∈ lw_all := lw_g (lw_at lw_m7 46 rfl) rfl
theorem q1579 : (Jvm.Cond.privateMethod ({ cls := "IntervalTreeModel", name := "visits", desc := "(I)V" } : Jvm.MethodName)) ∈ lw_tbl := lw_at lw_m7 47 rfl
theorem q1580 : (Jvm.Cond.instanceMethod ({ cls := "IntervalTreeModel", name := "visits", desc := "(I)V" } : Jvm.MethodName)) ∈ lw_all := lw_g (lw_at lw_m7 48 rfl) rfl
theorem q1581 : (Jvm.Cond.code ({ cls := "IntervalTreeModel", name := "visits", desc := "(I)V" } : Jvm.MethodName) prog_10_method_44_code (2 : Nat) (Option.none : Option Jvm.ClassFile.FieldType)) ∈ lw_all := lw_g (lw_at lw_m7 49 rfl) rfl
theorem q1582 : (Jvm.Cond.methodLink "IntervalTreeModel" (245 : Nat) ({ cls := "IntervalTreeModel", name := "absorbs", desc := "(I)V" } : Jvm.MethodName)) ∈ lw_all := lw_g (lw_at lw_m7 50 rfl) rfl
theorem q1583 : (Jvm.Cond.privateMethod ({ cls := "IntervalTreeModel", name := "absorbs", desc := "(I)V" } : Jvm.MethodName)) ∈ lw_tbl := lw_at lw_m7 51 rfl
theorem q1584 : (Jvm.Cond.instanceMethod ({ cls := "IntervalTreeModel", name := "absorbs", desc := "(I)V" } : Jvm.MethodName)) ∈ lw_all := lw_g (lw_at lw_m7 52 rfl) rfl
theorem q1585 : (Jvm.Cond.code ({ cls := "IntervalTreeModel", name := "absorbs", desc := "(I)V" } : Jvm.MethodName) prog_10_method_43_code (4 : Nat) (Option.none : Option Jvm.ClassFile.FieldType)) ∈ lw_all := lw_g (lw_at lw_m7 53 rfl) rfl
theorem q1586 : (Jvm.Cond.constant "IntervalTreeModel" (244 : Nat) (-306674912 : Int32)) ∈ lw_all := lw_g (lw_at lw_m7 54 rfl) rfl
theorem q1588 : (Jvm.Cond.instanceMethod ({ cls := "IntervalTreeModel", name := "stabCount", desc := "(I)I" } : Jvm.MethodName)) ∈ lw_all := lw_g (lw_at lw_m7 56 rfl) rfl
theorem q1589 : (Jvm.Cond.selects "IntervalTreeModel" ({ cls := "IntervalTreeModel", name := "stabCount", desc := "(I)I" } : Jvm.MethodName) ({ cls := "IntervalTreeModel", name := "stabCount", desc := "(I)I" } : Jvm.MethodName)) ∈ lw_all := lw_g (lw_at lw_m7 57 rfl) rfl
theorem q1590 : (Jvm.Cond.code ({ cls := "IntervalTreeModel", name := "stabCount", desc := "(I)I" } : Jvm.MethodName) prog_10_method_47_code (4 : Nat) (Option.some Jvm.ClassFile.FieldType.int)) ∈ lw_all := lw_g (lw_at lw_m7 58 rfl) rfl
theorem q1591 : (Jvm.Cond.methodLink "IntervalTreeModel" (251 : Nat) ({ cls := "IntervalTreeModel", name := "overlaps", desc := "(III)Z" } : Jvm.MethodName)) ∈ lw_all := lw_g (lw_at lw_m7 59 rfl) rfl
theorem q1592 : (Jvm.Cond.privateMethod ({ cls := "IntervalTreeModel", name := "overlaps", desc := "(III)Z" } : Jvm.MethodName)) ∈ lw_tbl := lw_at lw_m7 60 rfl
theorem q1593 : (Jvm.Cond.instanceMethod ({ cls := "IntervalTreeModel", name := "overlaps", desc := "(III)Z" } : Jvm.MethodName)) ∈ lw_all := lw_g (lw_at lw_m7 61 rfl) rfl
theorem q1594 : (Jvm.Cond.code ({ cls := "IntervalTreeModel", name := "overlaps", desc := "(III)Z" } : Jvm.MethodName) prog_10_method_46_code (4 : Nat) (Option.some Jvm.ClassFile.FieldType.boolean)) ∈ lw_all := lw_g (lw_at lw_m7 62 rfl) rfl
theorem q1596 : (Jvm.Cond.instanceMethod ({ cls := "IntervalTreeModel", name := "stabWeight", desc := "(I)I" } : Jvm.MethodName)) ∈ lw_all := lw_g (lw_at lw_m7 64 rfl) rfl
theorem q1597 : (Jvm.Cond.selects "IntervalTreeModel" ({ cls := "IntervalTreeModel", name := "stabWeight", desc := "(I)I" } : Jvm.MethodName) ({ cls := "IntervalTreeModel", name := "stabWeight", desc := "(I)I" } : Jvm.MethodName)) ∈ lw_all := lw_g (lw_at lw_m7 65 rfl) rfl
theorem q1598 : (Jvm.Cond.code ({ cls := "IntervalTreeModel", name := "stabWeight", desc := "(I)I" } : Jvm.MethodName) prog_10_method_48_code (4 : Nat) (Option.some Jvm.ClassFile.FieldType.int)) ∈ lw_all := lw_g (lw_at lw_m7 66 rfl) rfl
theorem q1600 : (Jvm.Cond.instanceMethod ({ cls := "IntervalTreeModel", name := "heaviest", desc := "(II)I" } : Jvm.MethodName)) ∈ lw_all := lw_g (lw_at lw_m7 68 rfl) rfl
theorem q1601 : (Jvm.Cond.selects "IntervalTreeModel" ({ cls := "IntervalTreeModel", name := "heaviest", desc := "(II)I" } : Jvm.MethodName) ({ cls := "IntervalTreeModel", name := "heaviest", desc := "(II)I" } : Jvm.MethodName)) ∈ lw_all := lw_g (lw_at lw_m7 69 rfl) rfl
theorem q1602 : (Jvm.Cond.code ({ cls := "IntervalTreeModel", name := "heaviest", desc := "(II)I" } : Jvm.MethodName) prog_10_method_50_code (3 : Nat) (Option.some Jvm.ClassFile.FieldType.int)) ∈ lw_all := lw_g (lw_at lw_m7 70 rfl) rfl
theorem q1603 : (Jvm.Cond.methodLink "IntervalTreeModel" (254 : Nat) ({ cls := "IntervalTreeModel", name := "ranked", desc := "(III)I" } : Jvm.MethodName)) ∈ lw_all := lw_g (lw_at lw_m7 71 rfl) rfl
theorem q1604 : (Jvm.Cond.privateMethod ({ cls := "IntervalTreeModel", name := "ranked", desc := "(III)I" } : Jvm.MethodName)) ∈ lw_tbl := lw_at lw_m7 72 rfl
theorem q1605 : (Jvm.Cond.instanceMethod ({ cls := "IntervalTreeModel", name := "ranked", desc := "(III)I" } : Jvm.MethodName)) ∈ lw_all := lw_g (lw_at lw_m7 73 rfl) rfl
theorem q1606 : (Jvm.Cond.code ({ cls := "IntervalTreeModel", name := "ranked", desc := "(III)I" } : Jvm.MethodName) prog_10_method_49_code (7 : Nat) (Option.some Jvm.ClassFile.FieldType.int)) ∈ lw_all := lw_g (lw_at lw_m7 74 rfl) rfl
theorem q1608 : (Jvm.Cond.instanceMethod ({ cls := "IntervalTreeModel", name := "heaviestOverlap", desc := "(III)I" } : Jvm.MethodName)) ∈ lw_all := lw_g (lw_at lw_m7 76 rfl) rfl
theorem q1609 : (Jvm.Cond.selects "IntervalTreeModel" ({ cls := "IntervalTreeModel", name := "heaviestOverlap", desc := "(III)I" } : Jvm.MethodName) ({ cls := "IntervalTreeModel", name := "heaviestOverlap", desc := "(III)I" } : Jvm.MethodName)) ∈ lw_all := lw_g (lw_at lw_m7 77 rfl) rfl
theorem q1610 : (Jvm.Cond.code ({ cls := "IntervalTreeModel", name := "heaviestOverlap", desc := "(III)I" } : Jvm.MethodName) prog_10_method_51_code (4 : Nat) (Option.some Jvm.ClassFile.FieldType.int)) ∈ lw_all := lw_g (lw_at lw_m7 78 rfl) rfl
theorem q1612 : (Jvm.Cond.instanceMethod ({ cls := "IntervalTreeModel", name := "firstOverlap", desc := "(II)I" } : Jvm.MethodName)) ∈ lw_all := lw_g (lw_at lw_m7 80 rfl) rfl
theorem q1613 : (Jvm.Cond.selects "IntervalTreeModel" ({ cls := "IntervalTreeModel", name := "firstOverlap", desc := "(II)I" } : Jvm.MethodName) ({ cls := "IntervalTreeModel", name := "firstOverlap", desc := "(II)I" } : Jvm.MethodName)) ∈ lw_all := lw_g (lw_at lw_m7 81 rfl) rfl
theorem q1614 : (Jvm.Cond.code ({ cls := "IntervalTreeModel", name := "firstOverlap", desc := "(II)I" } : Jvm.MethodName) prog_10_method_52_code (4 : Nat) (Option.some Jvm.ClassFile.FieldType.int)) ∈ lw_all := lw_g (lw_at lw_m7 82 rfl) rfl
theorem q1616 : (Jvm.Cond.instanceMethod ({ cls := "IntervalTreeModel", name := "floor", desc := "(I)I" } : Jvm.MethodName)) ∈ lw_all := lw_g (lw_at lw_m7 84 rfl) rfl
theorem q1617 : (Jvm.Cond.selects "IntervalTreeModel" ({ cls := "IntervalTreeModel", name := "floor", desc := "(I)I" } : Jvm.MethodName) ({ cls := "IntervalTreeModel", name := "floor", desc := "(I)I" } : Jvm.MethodName)) ∈ lw_all := lw_g (lw_at lw_m7 85 rfl) rfl
theorem q1618 : (Jvm.Cond.code ({ cls := "IntervalTreeModel", name := "floor", desc := "(I)I" } : Jvm.MethodName) prog_10_method_53_code (4 : Nat) (Option.some Jvm.ClassFile.FieldType.int)) ∈ lw_all := lw_g (lw_at lw_m7 86 rfl) rfl
theorem q1620 : (Jvm.Cond.instanceMethod ({ cls := "IntervalTreeModel", name := "ceiling", desc := "(I)I" } : Jvm.MethodName)) ∈ lw_all := lw_g (lw_at lw_m7 88 rfl) rfl
theorem q1621 : (Jvm.Cond.selects "IntervalTreeModel" ({ cls := "IntervalTreeModel", name := "ceiling", desc := "(I)I" } : Jvm.MethodName) ({ cls := "IntervalTreeModel", name := "ceiling", desc := "(I)I" } : Jvm.MethodName)) ∈ lw_all := lw_g (lw_at lw_m7 89 rfl) rfl
theorem q1622 : (Jvm.Cond.code ({ cls := "IntervalTreeModel", name := "ceiling", desc := "(I)I" } : Jvm.MethodName) prog_10_method_54_code (3 : Nat) (Option.some Jvm.ClassFile.FieldType.int)) ∈ lw_all := lw_g (lw_at lw_m7 90 rfl) rfl
theorem q1624 : (Jvm.Cond.instanceMethod ({ cls := "IntervalTreeModel", name := "rank", desc := "(I)I" } : Jvm.MethodName)) ∈ lw_all := lw_g (lw_at lw_m7 92 rfl) rfl
theorem q1625 : (Jvm.Cond.selects "IntervalTreeModel" ({ cls := "IntervalTreeModel", name := "rank", desc := "(I)I" } : Jvm.MethodName) ({ cls := "IntervalTreeModel", name := "rank", desc := "(I)I" } : Jvm.MethodName)) ∈ lw_all := lw_g (lw_at lw_m7 93 rfl) rfl
theorem q1626 : (Jvm.Cond.code ({ cls := "IntervalTreeModel", name := "rank", desc := "(I)I" } : Jvm.MethodName) prog_10_method_55_code (4 : Nat) (Option.some Jvm.ClassFile.FieldType.int)) ∈ lw_all := lw_g (lw_at lw_m7 94 rfl) rfl
theorem q1628 : (Jvm.Cond.instanceMethod ({ cls := "IntervalTreeModel", name := "select", desc := "(I)I" } : Jvm.MethodName)) ∈ lw_all := lw_g (lw_at lw_m7 96 rfl) rfl
theorem q1629 : (Jvm.Cond.selects "IntervalTreeModel" ({ cls := "IntervalTreeModel", name := "select", desc := "(I)I" } : Jvm.MethodName) ({ cls := "IntervalTreeModel", name := "select", desc := "(I)I" } : Jvm.MethodName)) ∈ lw_all := lw_g (lw_at lw_m7 97 rfl) rfl
theorem q1630 : (Jvm.Cond.code ({ cls := "IntervalTreeModel", name := "select", desc := "(I)I" } : Jvm.MethodName) prog_10_method_56_code (2 : Nat) (Option.some Jvm.ClassFile.FieldType.int)) ∈ lw_all := lw_g (lw_at lw_m7 98 rfl) rfl
theorem q1632 : (Jvm.Cond.instanceMethod ({ cls := "IntervalTreeModel", name := "nearest", desc := "(I)I" } : Jvm.MethodName)) ∈ lw_all := lw_g (lw_at lw_m7 100 rfl) rfl
theorem q1633 : (Jvm.Cond.selects "IntervalTreeModel" ({ cls := "IntervalTreeModel", name := "nearest", desc := "(I)I" } : Jvm.MethodName) ({ cls := "IntervalTreeModel", name := "nearest", desc := "(I)I" } : Jvm.MethodName)) ∈ lw_all := lw_g (lw_at lw_m7 101 rfl) rfl
theorem q1634 : (Jvm.Cond.code ({ cls := "IntervalTreeModel", name := "nearest", desc := "(I)I" } : Jvm.MethodName) prog_10_method_57_code (7 : Nat) (Option.some Jvm.ClassFile.FieldType.int)) ∈ lw_all := lw_g (lw_at lw_m7 102 rfl) rfl
theorem q1636 : (Jvm.Cond.instanceMethod ({ cls := "IntervalTreeModel", name := "covered", desc := "(II)I" } : Jvm.MethodName)) ∈ lw_all := lw_g (lw_at lw_m7 104 rfl) rfl
theorem q1637 : (Jvm.Cond.selects "IntervalTreeModel" ({ cls := "IntervalTreeModel", name := "covered", desc := "(II)I" } : Jvm.MethodName) ({ cls := "IntervalTreeModel", name := "covered", desc := "(II)I" } : Jvm.MethodName)) ∈ lw_all := lw_g (lw_at lw_m7 105 rfl) rfl
theorem q1638 : (Jvm.Cond.code ({ cls := "IntervalTreeModel", name := "covered", desc := "(II)I" } : Jvm.MethodName) prog_10_method_59_code (5 : Nat) (Option.some Jvm.ClassFile.FieldType.int)) ∈ lw_all := lw_g (lw_at lw_m7 106 rfl) rfl
theorem q1639 : (Jvm.Cond.methodLink "IntervalTreeModel" (258 : Nat) ({ cls := "IntervalTreeModel", name := "layCover", desc := "()V" } : Jvm.MethodName)) ∈ lw_all := lw_g (lw_at lw_m7 107 rfl) rfl
theorem q1640 : (Jvm.Cond.privateMethod ({ cls := "IntervalTreeModel", name := "layCover", desc := "()V" } : Jvm.MethodName)) ∈ lw_tbl := lw_at lw_m7 108 rfl
theorem q1641 : (Jvm.Cond.instanceMethod ({ cls := "IntervalTreeModel", name := "layCover", desc := "()V" } : Jvm.MethodName)) ∈ lw_all := lw_g (lw_at lw_m7 109 rfl) rfl
theorem q1642 : (Jvm.Cond.code ({ cls := "IntervalTreeModel", name := "layCover", desc := "()V" } : Jvm.MethodName) prog_10_method_58_code (2 : Nat) (Option.none : Option Jvm.ClassFile.FieldType)) ∈ lw_all := lw_g (lw_at lw_m7 110 rfl) rfl
theorem q1643 : (Jvm.Cond.methodLink "IntervalTreeModel" (261 : Nat) ({ cls := "java/lang/Math", name := "min", desc := "(II)I" } : Jvm.MethodName)) ∈ lw_all := lw_g (lw_at lw_m7 111 rfl) rfl
theorem q1645 : (Jvm.Cond.instanceMethod ({ cls := "IntervalTreeModel", name := "deepestPoint", desc := "()I" } : Jvm.MethodName)) ∈ lw_all := lw_g (lw_at lw_m7 113 rfl) rfl
theorem q1646 : (Jvm.Cond.selects "IntervalTreeModel" ({ cls := "IntervalTreeModel", name := "deepestPoint", desc := "()I" } : Jvm.MethodName) ({ cls := "IntervalTreeModel", name := "deepestPoint", desc := "()I" } : Jvm.MethodName)) ∈ lw_all := lw_g (lw_at lw_m7 114 rfl) rfl
theorem q1647 : (Jvm.Cond.code ({ cls := "IntervalTreeModel", name := "deepestPoint", desc := "()I" } : Jvm.MethodName) prog_10_method_60_code (3 : Nat) (Option.some Jvm.ClassFile.FieldType.int)) ∈ lw_all := lw_g (lw_at lw_m7 115 rfl) rfl
theorem q1649 : (Jvm.Cond.instanceMethod ({ cls := "IntervalTreeModel", name := "overlapCount", desc := "()I" } : Jvm.MethodName)) ∈ lw_all := lw_g (lw_at lw_m7 117 rfl) rfl
theorem q1650 : (Jvm.Cond.selects "IntervalTreeModel" ({ cls := "IntervalTreeModel", name := "overlapCount", desc := "()I" } : Jvm.MethodName) ({ cls := "IntervalTreeModel", name := "overlapCount", desc := "()I" } : Jvm.MethodName)) ∈ lw_all := lw_g (lw_at lw_m7 118 rfl) rfl
theorem q1651 : (Jvm.Cond.code ({ cls := "IntervalTreeModel", name := "overlapCount", desc := "()I" } : Jvm.MethodName) prog_10_method_61_code (4 : Nat) (Option.some Jvm.ClassFile.FieldType.int)) ∈ lw_all := lw_g (lw_at lw_m7 119 rfl) rfl
theorem q1653 : (Jvm.Cond.instanceMethod ({ cls := "IntervalTreeModel", name := "scheduleWeight", desc := "()I" } : Jvm.MethodName)) ∈ lw_all := lw_g (lw_at lw_m7 121 rfl) rfl
theorem q1654 : (Jvm.Cond.selects "IntervalTreeModel" ({ cls := "IntervalTreeModel", name := "scheduleWeight", desc := "()I" } : Jvm.MethodName) ({ cls := "IntervalTreeModel", name := "scheduleWeight", desc := "()I" } : Jvm.MethodName)) ∈ lw_all := lw_g (lw_at lw_m7 122 rfl) rfl
theorem q1655 : (Jvm.Cond.code ({ cls := "IntervalTreeModel", name := "scheduleWeight", desc := "()I" } : Jvm.MethodName) prog_10_method_64_code (1 : Nat) (Option.some Jvm.ClassFile.FieldType.int)) ∈ lw_all := lw_g (lw_at lw_m7 123 rfl) rfl
theorem q1656 : (Jvm.Cond.methodLink "IntervalTreeModel" (267 : Nat) ({ cls := "IntervalTreeModel", name := "layBest", desc := "()V" } : Jvm.MethodName)) ∈ lw_all := lw_g (lw_at lw_m7 124 rfl) rfl
theorem q1657 : (Jvm.Cond.privateMethod ({ cls := "IntervalTreeModel", name := "layBest", desc := "()V" } : Jvm.MethodName)) ∈ lw_tbl := lw_at lw_m7 125 rfl
theorem q1658 : (Jvm.Cond.instanceMethod ({ cls := "IntervalTreeModel", name := "layBest", desc := "()V" } : Jvm.MethodName)) ∈ lw_all := lw_g (lw_at lw_m7 126 rfl) rfl
theorem q1659 : (Jvm.Cond.code ({ cls := "IntervalTreeModel", name := "layBest", desc := "()V" } : Jvm.MethodName) prog_10_method_63_code (2 : Nat) (Option.none : Option Jvm.ClassFile.FieldType)) ∈ lw_all := lw_g (lw_at lw_m7 127 rfl) rfl
theorem q1660 : (Jvm.Cond.methodLink "IntervalTreeModel" (264 : Nat) ({ cls := "IntervalTreeModel", name := "behind", desc := "(I)I" } : Jvm.MethodName)) ∈ lw_all := lw_g (lw_at lw_m7 128 rfl) rfl
theorem q1661 : (Jvm.Cond.privateMethod ({ cls := "IntervalTreeModel", name := "behind", desc := "(I)I" } : Jvm.MethodName)) ∈ lw_tbl := lw_at lw_m7 129 rfl
theorem q1662 : (Jvm.Cond.instanceMethod ({ cls := "IntervalTreeModel", name := "behind", desc := "(I)I" } : Jvm.MethodName)) ∈ lw_all := lw_g (lw_at lw_m7 130 rfl) rfl
theorem q1663 : (Jvm.Cond.code ({ cls := "IntervalTreeModel", name := "behind", desc := "(I)I" } : Jvm.MethodName) prog_10_method_62_code (3 : Nat) (Option.some Jvm.ClassFile.FieldType.int)) ∈ lw_all := lw_g (lw_at lw_m7 131 rfl) rfl
theorem q1665 : (Jvm.Cond.instanceMethod ({ cls := "IntervalTreeModel", name := "scheduled", desc := "(I)I" } : Jvm.MethodName)) ∈ lw_all := lw_g (lw_at lw_m7 133 rfl) rfl
theorem q1666 : (Jvm.Cond.selects "IntervalTreeModel" ({ cls := "IntervalTreeModel", name := "scheduled", desc := "(I)I" } : Jvm.MethodName) ({ cls := "IntervalTreeModel", name := "scheduled", desc := "(I)I" } : Jvm.MethodName)) ∈ lw_all := lw_g (lw_at lw_m7 134 rfl) rfl
theorem q1667 : (Jvm.Cond.code ({ cls := "IntervalTreeModel", name := "scheduled", desc := "(I)I" } : Jvm.MethodName) prog_10_method_65_code (7 : Nat) (Option.some Jvm.ClassFile.FieldType.int)) ∈ lw_all := lw_g (lw_at lw_m7 135 rfl) rfl
theorem q1669 : (Jvm.Cond.instanceMethod ({ cls := "IntervalTreeModel", name := "piercingPoint", desc := "(I)I" } : Jvm.MethodName)) ∈ lw_all := lw_g (lw_at lw_m7 137 rfl) rfl
theorem q1670 : (Jvm.Cond.selects "IntervalTreeModel" ({ cls := "IntervalTreeModel", name := "piercingPoint", desc := "(I)I" } : Jvm.MethodName) ({ cls := "IntervalTreeModel", name := "piercingPoint", desc := "(I)I" } : Jvm.MethodName)) ∈ lw_all := lw_g (lw_at lw_m7 138 rfl) rfl
theorem q1671 : (Jvm.Cond.code ({ cls := "IntervalTreeModel", name := "piercingPoint", desc := "(I)I" } : Jvm.MethodName) prog_10_method_66_code (6 : Nat) (Option.some Jvm.ClassFile.FieldType.int)) ∈ lw_all := lw_g (lw_at lw_m7 139 rfl) rfl
theorem q1673 : (Jvm.Cond.instanceMethod ({ cls := "IntervalTreeModel", name := "addRangeFilter", desc := "(III)I" } : Jvm.MethodName)) ∈ lw_all := lw_g (lw_at lw_m7 141 rfl) rfl
theorem q1674 : (Jvm.Cond.selects "IntervalTreeModel" ({ cls := "IntervalTreeModel", name := "addRangeFilter", desc := "(III)I" } : Jvm.MethodName) ({ cls := "IntervalTreeModel", name := "addRangeFilter", desc := "(III)I" } : Jvm.MethodName)) ∈ lw_all := lw_g (lw_at lw_m7 142 rfl) rfl
theorem q1675 : (Jvm.Cond.code ({ cls := "IntervalTreeModel", name := "addRangeFilter", desc := "(III)I" } : Jvm.MethodName) prog_10_method_74_code (4 : Nat) (Option.some Jvm.ClassFile.FieldType.int)) ∈ lw_all := lw_g (lw_at lw_m7 143 rfl) rfl
theorem q1676 : (Jvm.Cond.methodLink "IntervalTreeModel" (285 : Nat) ({ cls := "IntervalTreeModel", name := "adds", desc := "(IIII)I" } : Jvm.MethodName)) ∈ lw_all := lw_g (lw_at lw_m7 144 rfl) rfl
theorem q1677 : (Jvm.Cond.privateMethod ({ cls := "IntervalTreeModel", name := "adds", desc := "(IIII)I" } : Jvm.MethodName)) ∈ lw_tbl := lw_at lw_m7 145 rfl
theorem q1678 : (Jvm.Cond.instanceMethod ({ cls := "IntervalTreeModel", name := "adds", desc := "(IIII)I" } : Jvm.MethodName)) ∈ lw_all := lw_g (lw_at lw_m7 146 rfl) rfl
theorem q1679 : (Jvm.Cond.code ({ cls := "IntervalTreeModel", name := "adds", desc := "(IIII)I" } : Jvm.MethodName) prog_10_method_73_code (5 : Nat) (Option.some Jvm.ClassFile.FieldType.int)) ∈ lw_all := lw_g (lw_at lw_m7 147 rfl) rfl
theorem q1681 : (Jvm.Cond.instanceMethod ({ cls := "IntervalTreeModel", name := "addHeavierFilter", desc := "(I)I" } : Jvm.MethodName)) ∈ lw_all := lw_g (lw_at lw_m7 149 rfl) rfl
theorem q1682 : (Jvm.Cond.selects "IntervalTreeModel" ({ cls := "IntervalTreeModel", name := "addHeavierFilter", desc := "(I)I" } : Jvm.MethodName) ({ cls := "IntervalTreeModel", name := "addHeavierFilter", desc := "(I)I" } : Jvm.MethodName)) ∈ lw_all := lw_g (lw_at lw_m7 150 rfl) rfl
theorem q1683 : (Jvm.Cond.code ({ cls := "IntervalTreeModel", name := "addHeavierFilter", desc := "(I)I" } : Jvm.MethodName) prog_10_method_75_code (2 : Nat) (Option.some Jvm.ClassFile.FieldType.int)) ∈ lw_all := lw_g (lw_at lw_m7 151 rfl) rfl
theorem q1685 : (Jvm.Cond.instanceMethod ({ cls := "IntervalTreeModel", name := "addCombinedFilter", desc := "(III)I" } : Jvm.MethodName)) ∈ lw_all := lw_g (lw_at lw_m7 153 rfl) rfl
theorem q1686 : (Jvm.Cond.selects "IntervalTreeModel" ({ cls := "IntervalTreeModel", name := "addCombinedFilter", desc := "(III)I" } : Jvm.MethodName) ({ cls := "IntervalTreeModel", name := "addCombinedFilter", desc := "(III)I" } : Jvm.MethodName)) ∈ lw_all := lw_g (lw_at lw_m7 154 rfl) rfl
theorem q1687 : (Jvm.Cond.code ({ cls := "IntervalTreeModel", name := "addCombinedFilter", desc := "(III)I" } : Jvm.MethodName) prog_10_method_76_code (4 : Nat) (Option.some Jvm.ClassFile.FieldType.int)) ∈ lw_all := lw_g (lw_at lw_m7 155 rfl) rfl
theorem q1688 : (Jvm.Cond.methodLink "IntervalTreeModel" (288 : Nat) ({ cls := "IntervalTreeModel", name := "isFilter", desc := "(I)Z" } : Jvm.MethodName)) ∈ lw_all := lw_g (lw_at lw_m7 156 rfl) rfl
theorem q1689 : (Jvm.Cond.privateMethod ({ cls := "IntervalTreeModel", name := "isFilter", desc := "(I)Z" } : Jvm.MethodName)) ∈ lw_tbl := lw_at lw_m7 157 rfl
theorem q1690 : (Jvm.Cond.instanceMethod ({ cls := "IntervalTreeModel", name := "isFilter", desc := "(I)Z" } : Jvm.MethodName)) ∈ lw_all := lw_g (lw_at lw_m7 158 rfl) rfl
theorem q1691 : (Jvm.Cond.code ({ cls := "IntervalTreeModel", name := "isFilter", desc := "(I)Z" } : Jvm.MethodName) prog_10_method_67_code (2 : Nat) (Option.some Jvm.ClassFile.FieldType.boolean)) ∈ lw_all := lw_g (lw_at lw_m7 159 rfl) rfl
theorem q1693 : (Jvm.Cond.instanceMethod ({ cls := "IntervalTreeModel", name := "feed", desc := "(I)I" } : Jvm.MethodName)) ∈ lw_all := lw_g (lw_at lw_m7 161 rfl) rfl
theorem q1694 : (Jvm.Cond.selects "IntervalTreeModel" ({ cls := "IntervalTreeModel", name := "feed", desc := "(I)I" } : Jvm.MethodName) ({ cls := "IntervalTreeModel", name := "feed", desc := "(I)I" } : Jvm.MethodName)) ∈ lw_all := lw_g (lw_at lw_m7 162 rfl) rfl
theorem q1695 : (Jvm.Cond.code ({ cls := "IntervalTreeModel", name := "feed", desc := "(I)I" } : Jvm.MethodName) prog_10_method_77_code (2 : Nat) (Option.some Jvm.ClassFile.FieldType.int)) ∈ lw_all := lw_g (lw_at lw_m7 163 rfl) rfl
theorem q1697 : (Jvm.Cond.instanceMethod ({ cls := "IntervalTreeModel", name := "parseFilter", desc := "()I" } : Jvm.MethodName)) ∈ lw_all := lw_g (lw_at lw_m7 165 rfl) rfl
theorem q1698 : (Jvm.Cond.selects "IntervalTreeModel" ({ cls := "IntervalTreeModel", name := "parseFilter", desc := "()I" } : Jvm.MethodName) ({ cls := "IntervalTreeModel", name := "parseFilter", desc := "()I" } : Jvm.MethodName)) ∈ lw_all := lw_g (lw_at lw_m7 166 rfl) rfl
theorem q1699 : (Jvm.Cond.code ({ cls := "IntervalTreeModel", name := "parseFilter", desc := "()I" } : Jvm.MethodName) prog_10_method_86_code (1 : Nat) (Option.some Jvm.ClassFile.FieldType.int)) ∈ lw_all := lw_g (lw_at lw_m7 167 rfl) rfl
theorem q1700 : (Jvm.Cond.methodLink "IntervalTreeModel" (303 : Nat) ({ cls := "IntervalTreeModel", name := "readFilter", desc := "()V" } : Jvm.MethodName)) ∈ lw_all := lw_g (lw_at lw_m7 168 rfl) rfl
theorem q1701 : (Jvm.Cond.privateMethod ({ cls := "IntervalTreeModel", name := "readFilter", desc := "()V" } : Jvm.MethodName)) ∈ lw_tbl := lw_at lw_m7 169 rfl
theorem q1702 : (Jvm.Cond.instanceMethod ({ cls := "IntervalTreeModel", name := "readFilter", desc := "()V" } : Jvm.MethodName)) ∈ lw_all := lw_g (lw_at lw_m7 170 rfl) rfl
theorem q1703 : (Jvm.Cond.code ({ cls := "IntervalTreeModel", name := "readFilter", desc := "()V" } : Jvm.MethodName) prog_10_method_81_code (1 : Nat) (Option.none : Option Jvm.ClassFile.FieldType)) ∈ lw_all := lw_g (lw_at lw_m7 171 rfl) rfl
theorem q1704 : (Jvm.Cond.methodLink "IntervalTreeModel" (294 : Nat) ({ cls := "IntervalTreeModel", name := "readTerm", desc := "()V" } : Jvm.MethodName)) ∈ lw_all := lw_g (lw_at lw_m7 172 rfl) rfl
theorem q1705 : (Jvm.Cond.privateMethod ({ cls := "IntervalTreeModel", name := "readTerm", desc := "()V" } : Jvm.MethodName)) ∈ lw_tbl := lw_at lw_m7 173 rfl
theorem q1706 : (Jvm.Cond.instanceMethod ({ cls := "IntervalTreeModel", name := "readTerm", desc := "()V" } : Jvm.MethodName)) ∈ lw_all := lw_g (lw_at lw_m7 174 rfl) rfl
theorem q1707 : (Jvm.Cond.code ({ cls := "IntervalTreeModel", name := "readTerm", desc := "()V" } : Jvm.MethodName) prog_10_method_82_code (1 : Nat) (Option.none : Option Jvm.ClassFile.FieldType)) ∈ lw_all := lw_g (lw_at lw_m7 175 rfl) rfl
theorem q1708 : (Jvm.Cond.methodLink "IntervalTreeModel" (300 : Nat) ({ cls := "IntervalTreeModel", name := "readFactor", desc := "()V" } : Jvm.MethodName)) ∈ lw_all := lw_g (lw_at lw_m7 176 rfl) rfl
theorem q1709 : (Jvm.Cond.privateMethod ({ cls := "IntervalTreeModel", name := "readFactor", desc := "()V" } : Jvm.MethodName)) ∈ lw_tbl := lw_at lw_m7 177 rfl
theorem q1710 : (Jvm.Cond.instanceMethod ({ cls := "IntervalTreeModel", name := "readFactor", desc := "()V" } : Jvm.MethodName)) ∈ lw_all := lw_g (lw_at lw_m7 178 rfl) rfl
theorem q1711 : (Jvm.Cond.code ({ cls := "IntervalTreeModel", name := "readFactor", desc := "()V" } : Jvm.MethodName) prog_10_method_83_code (1 : Nat) (Option.none : Option Jvm.ClassFile.FieldType)) ∈ lw_all := lw_g (lw_at lw_m7 179 rfl) rfl
theorem q1712 : (Jvm.Cond.methodLink "IntervalTreeModel" (291 : Nat) ({ cls := "IntervalTreeModel", name := "sign", desc := "()I" } : Jvm.MethodName)) ∈ lw_all := lw_g (lw_at lw_m7 180 rfl) rfl
theorem q1713 : (Jvm.Cond.privateMethod ({ cls := "IntervalTreeModel", name := "sign", desc := "()I" } : Jvm.MethodName)) ∈ lw_tbl := lw_at lw_m7 181 rfl
theorem q1714 : (Jvm.Cond.instanceMethod ({ cls := "IntervalTreeModel", name := "sign", desc := "()I" } : Jvm.MethodName)) ∈ lw_all := lw_g (lw_at lw_m7 182 rfl) rfl
theorem q1715 : (Jvm.Cond.code ({ cls := "IntervalTreeModel", name := "sign", desc := "()I" } : Jvm.MethodName) prog_10_method_78_code (1 : Nat) (Option.some Jvm.ClassFile.FieldType.int)) ∈ lw_all := lw_g (lw_at lw_m7 183 rfl) rfl
theorem q1716 : (Jvm.Cond.methodLink "IntervalTreeModel" (297 : Nat) ({ cls := "IntervalTreeModel", name := "part", desc := "(III)V" } : Jvm.MethodName)) ∈ lw_all := lw_g (lw_at lw_m7 184 rfl) rfl
theorem q1717 : (Jvm.Cond.privateMethod ({ cls := "IntervalTreeModel", name := "part", desc := "(III)V" } : Jvm.MethodName)) ∈ lw_tbl := lw_at lw_m7 185 rfl
theorem q1718 : (Jvm.Cond.instanceMethod ({ cls := "IntervalTreeModel", name := "part", desc := "(III)V" } : Jvm.MethodName)) ∈ lw_all := lw_g (lw_at lw_m7 186 rfl) rfl
theorem q1719 : (Jvm.Cond.code ({ cls := "IntervalTreeModel", name := "part", desc := "(III)V" } : Jvm.MethodName) prog_10_method_80_code (5 : Nat) (Option.none : Option Jvm.ClassFile.FieldType)) ∈ lw_all := lw_g (lw_at lw_m7 187 rfl) rfl
theorem q1720 : (Jvm.Cond.methodLink "IntervalTreeModel" (306 : Nat) ({ cls := "IntervalTreeModel", name := "readReference", desc := "()V" } : Jvm.MethodName)) ∈ lw_all := lw_g (lw_at lw_m7 188 rfl) rfl
theorem q1721 : (Jvm.Cond.privateMethod ({ cls := "IntervalTreeModel", name := "readReference", desc := "()V" } : Jvm.MethodName)) ∈ lw_tbl := lw_at lw_m7 189 rfl
theorem q1722 : (Jvm.Cond.instanceMethod ({ cls := "IntervalTreeModel", name := "readReference", desc := "()V" } : Jvm.MethodName)) ∈ lw_all := lw_g (lw_at lw_m7 190 rfl) rfl
theorem q1723 : (Jvm.Cond.code ({ cls := "IntervalTreeModel", name := "readReference", desc := "()V" } : Jvm.MethodName) prog_10_method_84_code (1 : Nat) (Option.none : Option Jvm.ClassFile.FieldType)) ∈ lw_all := lw_g (lw_at lw_m7 191 rfl) rfl
theorem q1724 : (Jvm.Cond.methodLink "IntervalTreeModel" (312 : Nat) ({ cls := "IntervalTreeModel", name := "isDigit", desc := "()Z" } : Jvm.MethodName)) ∈ lw_all := lw_g (lw_at lw_m7 192 rfl) rfl
theorem q1725 : (Jvm.Cond.privateMethod ({ cls := "IntervalTreeModel", name := "isDigit", desc := "()Z" } : Jvm.MethodName)) ∈ lw_tbl := lw_at lw_m7 193 rfl
theorem q1726 : (Jvm.Cond.instanceMethod ({ cls := "IntervalTreeModel", name := "isDigit", desc := "()Z" } : Jvm.MethodName)) ∈ lw_all := lw_g (lw_at lw_m7 194 rfl) rfl
theorem q1727 : (Jvm.Cond.code ({ cls := "IntervalTreeModel", name := "isDigit", desc := "()Z" } : Jvm.MethodName) prog_10_method_79_code (1 : Nat) (Option.some Jvm.ClassFile.FieldType.boolean)) ∈ lw_all := lw_g (lw_at lw_m7 195 rfl) rfl
theorem q1728 : (Jvm.Cond.methodLink "IntervalTreeModel" (309 : Nat) ({ cls := "IntervalTreeModel", name := "readComparison", desc := "(I)V" } : Jvm.MethodName)) ∈ lw_all := lw_g (lw_at lw_m7 196 rfl) rfl
theorem q1729 : (Jvm.Cond.privateMethod ({ cls := "IntervalTreeModel", name := "readComparison", desc := "(I)V" } : Jvm.MethodName)) ∈ lw_tbl := lw_at lw_m7 197 rfl
theorem q1730 : (Jvm.Cond.instanceMethod ({ cls := "IntervalTreeModel", name := "readComparison", desc := "(I)V" } : Jvm.MethodName)) ∈ lw_all := lw_g (lw_at lw_m7 198 rfl) rfl
theorem q1731 : (Jvm.Cond.code ({ cls := "IntervalTreeModel", name := "readComparison", desc := "(I)V" } : Jvm.MethodName) prog_10_method_85_code (6 : Nat) (Option.none : Option Jvm.ClassFile.FieldType)) ∈ lw_all := lw_g (lw_at lw_m7 199 rfl) rfl
theorem q1733 : (Jvm.Cond.instanceMethod ({ cls := "IntervalTreeModel", name := "matchCount", desc := "(I)I" } : Jvm.MethodName)) ∈ lw_all := lw_g (lw_at lw_m7 201 rfl) rfl
theorem q1734 : (Jvm.Cond.selects "IntervalTreeModel" ({ cls := "IntervalTreeModel", name := "matchCount", desc := "(I)I" } : Jvm.MethodName) ({ cls := "IntervalTreeModel", name := "matchCount", desc := "(I)I" } : Jvm.MethodName)) ∈ lw_all := lw_g (lw_at lw_m7 202 rfl) rfl
theorem q1735 : (Jvm.Cond.code ({ cls := "IntervalTreeModel", name := "matchCount", desc := "(I)I" } : Jvm.MethodName) prog_10_method_87_code (4 : Nat) (Option.some Jvm.ClassFile.FieldType.int)) ∈ lw_all := lw_g (lw_at lw_m7 203 rfl) rfl
theorem q1736 : (Jvm.Cond.methodLink "IntervalTreeModel" (270 : Nat) ({ cls := "IntervalTreeModel", name := "takes", desc := "(II)Z" } : Jvm.MethodName)) ∈ lw_all := lw_g (lw_at lw_m7 204 rfl) rfl
theorem q1737 : (Jvm.Cond.privateMethod ({ cls := "IntervalTreeModel", name := "takes", desc := "(II)Z" } : Jvm.MethodName)) ∈ lw_tbl := lw_at lw_m7 205 rfl
theorem q1738 : (Jvm.Cond.instanceMethod ({ cls := "IntervalTreeModel", name := "takes", desc := "(II)Z" } : Jvm.MethodName)) ∈ lw_all := lw_g (lw_at lw_m7 206 rfl) rfl
theorem q1739 : (Jvm.Cond.code ({ cls := "IntervalTreeModel", name := "takes", desc := "(II)Z" } : Jvm.MethodName) prog_10_method_72_code (5 : Nat) (Option.some Jvm.ClassFile.FieldType.boolean)) ∈ lw_all := lw_g (lw_at lw_m7 207 rfl) rfl
theorem q1740 : (Jvm.Cond.methodLink "IntervalTreeModel" (279 : Nat) ({ cls := "IntervalTreeModel", name := "overlapsAny", desc := "(I)Z" } : Jvm.MethodName)) ∈ lw_all := lw_g (lw_at lw_m7 208 rfl) rfl
theorem q1741 : (Jvm.Cond.privateMethod ({ cls := "IntervalTreeModel", name := "overlapsAny", desc := "(I)Z" } : Jvm.MethodName)) ∈ lw_tbl := lw_at lw_m7 209 rfl
theorem q1742 : (Jvm.Cond.instanceMethod ({ cls := "IntervalTreeModel", name := "overlapsAny", desc := "(I)Z" } : Jvm.MethodName)) ∈ lw_all := lw_g (lw_at lw_m7 210 rfl) rfl
theorem q1743 : (Jvm.Cond.code ({ cls := "IntervalTreeModel", name := "overlapsAny", desc := "(I)Z" } : Jvm.MethodName) prog_10_method_69_code (3 : Nat) (Option.some Jvm.ClassFile.FieldType.boolean)) ∈ lw_all := lw_g (lw_at lw_m7 211 rfl) rfl
theorem q1744 : (Jvm.Cond.methodLink "IntervalTreeModel" (273 : Nat) ({ cls := "IntervalTreeModel", name := "propertyOf", desc := "(II)I" } : Jvm.MethodName)) ∈ lw_all := lw_g (lw_at lw_m7 212 rfl) rfl
theorem q1745 : (Jvm.Cond.privateMethod ({ cls := "IntervalTreeModel", name := "propertyOf", desc := "(II)I" } : Jvm.MethodName)) ∈ lw_tbl := lw_at lw_m7 213 rfl
theorem q1746 : (Jvm.Cond.instanceMethod ({ cls := "IntervalTreeModel", name := "propertyOf", desc := "(II)I" } : Jvm.MethodName)) ∈ lw_all := lw_g (lw_at lw_m7 214 rfl) rfl
theorem q1747 : (Jvm.Cond.code ({ cls := "IntervalTreeModel", name := "propertyOf", desc := "(II)I" } : Jvm.MethodName) prog_10_method_68_code (3 : Nat) (Option.some Jvm.ClassFile.FieldType.int)) ∈ lw_all := lw_g (lw_at lw_m7 215 rfl) rfl
theorem q1748 : (Jvm.Cond.methodLink "IntervalTreeModel" (282 : Nat) ({ cls := "IntervalTreeModel", name := "isWritten", desc := "(II)Z" } : Jvm.MethodName)) ∈ lw_all := lw_g (lw_at lw_m7 216 rfl) rfl
theorem q1749 : (Jvm.Cond.privateMethod ({ cls := "IntervalTreeModel", name := "isWritten", desc := "(II)Z" } : Jvm.MethodName)) ∈ lw_tbl := lw_at lw_m7 217 rfl
theorem q1750 : (Jvm.Cond.instanceMethod ({ cls := "IntervalTreeModel", name := "isWritten", desc := "(II)Z" } : Jvm.MethodName)) ∈ lw_all := lw_g (lw_at lw_m7 218 rfl) rfl
theorem q1751 : (Jvm.Cond.code ({ cls := "IntervalTreeModel", name := "isWritten", desc := "(II)Z" } : Jvm.MethodName) prog_10_method_71_code (5 : Nat) (Option.some Jvm.ClassFile.FieldType.boolean)) ∈ lw_all := lw_g (lw_at lw_m7 219 rfl) rfl
theorem q1752 : (Jvm.Cond.methodLink "IntervalTreeModel" (276 : Nat) ({ cls := "IntervalTreeModel", name := "isCompared", desc := "(III)Z" } : Jvm.MethodName)) ∈ lw_all := lw_g (lw_at lw_m7 220 rfl) rfl
theorem q1753 : (Jvm.Cond.privateMethod ({ cls := "IntervalTreeModel", name := "isCompared", desc := "(III)Z" } : Jvm.MethodName)) ∈ lw_tbl := lw_at lw_m7 221 rfl
theorem q1754 : (Jvm.Cond.instanceMethod ({ cls := "IntervalTreeModel", name := "isCompared", desc := "(III)Z" } : Jvm.MethodName)) ∈ lw_all := lw_g (lw_at lw_m7 222 rfl) rfl
theorem q1755 : (Jvm.Cond.code ({ cls := "IntervalTreeModel", name := "isCompared", desc := "(III)Z" } : Jvm.MethodName) prog_10_method_70_code (4 : Nat) (Option.some Jvm.ClassFile.FieldType.boolean)) ∈ lw_all := lw_g (lw_at lw_m7 223 rfl) rfl
theorem q1757 : (Jvm.Cond.instanceMethod ({ cls := "IntervalTreeModel", name := "accepts", desc := "(II)Z" } : Jvm.MethodName)) ∈ lw_all := lw_g (lw_at lw_m7 225 rfl) rfl
theorem q1758 : (Jvm.Cond.selects "IntervalTreeModel" ({ cls := "IntervalTreeModel", name := "accepts", desc := "(II)Z" } : Jvm.MethodName) ({ cls := "IntervalTreeModel", name := "accepts", desc := "(II)Z" } : Jvm.MethodName)) ∈ lw_all := lw_g (lw_at lw_m7 226 rfl) rfl
theorem q1759 : (Jvm.Cond.code ({ cls := "IntervalTreeModel", name := "accepts", desc := "(II)Z" } : Jvm.MethodName) prog_10_method_88_code (3 : Nat) (Option.some Jvm.ClassFile.FieldType.boolean)) ∈ lw_all := lw_g (lw_at lw_m7 227 rfl) rfl
theorem q1761 : (Jvm.Cond.instanceMethod ({ cls := "IntervalTreeModel", name := "open", desc := "(II)I" } : Jvm.MethodName)) ∈ lw_all := lw_g (lw_at lw_m7 229 rfl) rfl
theorem q1762 : (Jvm.Cond.selects "IntervalTreeModel" ({ cls := "IntervalTreeModel", name := "open", desc := "(II)I" } : Jvm.MethodName) ({ cls := "IntervalTreeModel", name := "open", desc := "(II)I" } : Jvm.MethodName)) ∈ lw_all := lw_g (lw_at lw_m7 230 rfl) rfl
theorem q1763 : (Jvm.Cond.code ({ cls := "IntervalTreeModel", name := "open", desc := "(II)I" } : Jvm.MethodName) prog_10_method_91_code (3 : Nat) (Option.some Jvm.ClassFile.FieldType.int)) ∈ lw_all := lw_g (lw_at lw_m7 231 rfl) rfl
theorem q1764 : (Jvm.Cond.methodLink "IntervalTreeModel" (316 : Nat) ({ cls := "IntervalTreeModel", name := "isCursor", desc := "(I)Z" } : Jvm.MethodName)) ∈ lw_all := lw_g (lw_at lw_m7 232 rfl) rfl
theorem q1765 : (Jvm.Cond.static ({ cls := "IntervalTreeModel", name := "isCursor", desc := "(I)Z" } : Jvm.MethodName)) ∈ lw_all := lw_g (lw_at lw_m7 233 rfl) rfl
theorem q1766 : (Jvm.Cond.code ({ cls := "IntervalTreeModel", name := "isCursor", desc := "(I)Z" } : Jvm.MethodName) prog_10_method_89_code (1 : Nat) (Option.some Jvm.ClassFile.FieldType.boolean)) ∈ lw_all := lw_g (lw_at lw_m7 234 rfl) rfl
theorem q1767 : (Jvm.Cond.methodLink "IntervalTreeModel" (319 : Nat) ({ cls := "IntervalTreeModel", name := "following", desc := "(I)I" } : Jvm.MethodName)) ∈ lw_all := lw_g (lw_at lw_m7 235 rfl) rfl
theorem q1768 : (Jvm.Cond.privateMethod ({ cls := "IntervalTreeModel", name := "following", desc := "(I)I" } : Jvm.MethodName)) ∈ lw_tbl := lw_at lw_m7 236 rfl
theorem q1769 : (Jvm.Cond.instanceMethod ({ cls := "IntervalTreeModel", name := "following", desc := "(I)I" } : Jvm.MethodName)) ∈ lw_all := lw_g (lw_at lw_m7 237 rfl) rfl
theorem q1770 : (Jvm.Cond.code ({ cls := "IntervalTreeModel", name := "following", desc := "(I)I" } : Jvm.MethodName) prog_10_method_90_code (4 : Nat) (Option.some Jvm.ClassFile.FieldType.int)) ∈ lw_all := lw_g (lw_at lw_m7 238 rfl) rfl
theorem q1772 : (Jvm.Cond.instanceMethod ({ cls := "IntervalTreeModel", name := "hasNext", desc := "(I)Z" } : Jvm.MethodName)) ∈ lw_all := lw_g (lw_at lw_m8 0 rfl) rfl
theorem q1773 : (Jvm.Cond.selects "IntervalTreeModel" ({ cls := "IntervalTreeModel", name := "hasNext", desc := "(I)Z" } : Jvm.MethodName) ({ cls := "IntervalTreeModel", name := "hasNext", desc := "(I)Z" } : Jvm.MethodName)) ∈ lw_all := lw_g (lw_at lw_m8 1 rfl) rfl
theorem q1774 : (Jvm.Cond.code ({ cls := "IntervalTreeModel", name := "hasNext", desc := "(I)Z" } : Jvm.MethodName) prog_10_method_92_code (2 : Nat) (Option.some Jvm.ClassFile.FieldType.boolean)) ∈ lw_all := lw_g (lw_at lw_m8 2 rfl) rfl
theorem q1776 : (Jvm.Cond.instanceMethod ({ cls := "IntervalTreeModel", name := "next", desc := "(I)I" } : Jvm.MethodName)) ∈ lw_all := lw_g (lw_at lw_m8 4 rfl) rfl
theorem q1777 : (Jvm.Cond.selects "IntervalTreeModel" ({ cls := "IntervalTreeModel", name := "next", desc := "(I)I" } : Jvm.MethodName) ({ cls := "IntervalTreeModel", name := "next", desc := "(I)I" } : Jvm.MethodName)) ∈ lw_all := lw_g (lw_at lw_m8 5 rfl) rfl
theorem q1778 : (Jvm.Cond.code ({ cls := "IntervalTreeModel", name := "next", desc := "(I)I" } : Jvm.MethodName) prog_10_method_93_code (3 : Nat) (Option.some Jvm.ClassFile.FieldType.int)) ∈ lw_all := lw_g (lw_at lw_m8 6 rfl) rfl
theorem q1780 : (Jvm.Cond.instanceMethod ({ cls := "IntervalTreeModel", name := "removeCurrent", desc := "(I)I" } : Jvm.MethodName)) ∈ lw_all := lw_g (lw_at lw_m8 8 rfl) rfl
theorem q1781 : (Jvm.Cond.selects "IntervalTreeModel" ({ cls := "IntervalTreeModel", name := "removeCurrent", desc := "(I)I" } : Jvm.MethodName) ({ cls := "IntervalTreeModel", name := "removeCurrent", desc := "(I)I" } : Jvm.MethodName)) ∈ lw_all := lw_g (lw_at lw_m8 9 rfl) rfl
theorem q1782 : (Jvm.Cond.code ({ cls := "IntervalTreeModel", name := "removeCurrent", desc := "(I)I" } : Jvm.MethodName) prog_10_method_94_code (2 : Nat) (Option.some Jvm.ClassFile.FieldType.int)) ∈ lw_all := lw_g (lw_at lw_m8 10 rfl) rfl
theorem q1784 : (Jvm.Cond.instanceMethod ({ cls := "IntervalTreeModel", name := "save", desc := "()I" } : Jvm.MethodName)) ∈ lw_all := lw_g (lw_at lw_m8 12 rfl) rfl
theorem q1785 : (Jvm.Cond.selects "IntervalTreeModel" ({ cls := "IntervalTreeModel", name := "save", desc := "()I" } : Jvm.MethodName) ({ cls := "IntervalTreeModel", name := "save", desc := "()I" } : Jvm.MethodName)) ∈ lw_all := lw_g (lw_at lw_m8 13 rfl) rfl
theorem q1786 : (Jvm.Cond.code ({ cls := "IntervalTreeModel", name := "save", desc := "()I" } : Jvm.MethodName) prog_10_method_95_code (2 : Nat) (Option.some Jvm.ClassFile.FieldType.int)) ∈ lw_all := lw_g (lw_at lw_m8 14 rfl) rfl
theorem q1788 : (Jvm.Cond.instanceMethod ({ cls := "IntervalTreeModel", name := "load", desc := "()I" } : Jvm.MethodName)) ∈ lw_all := lw_g (lw_at lw_m8 16 rfl) rfl
theorem q1789 : (Jvm.Cond.selects "IntervalTreeModel" ({ cls := "IntervalTreeModel", name := "load", desc := "()I" } : Jvm.MethodName) ({ cls := "IntervalTreeModel", name := "load", desc := "()I" } : Jvm.MethodName)) ∈ lw_all := lw_g (lw_at lw_m8 17 rfl) rfl
theorem q1790 : (Jvm.Cond.code ({ cls := "IntervalTreeModel", name := "load", desc := "()I" } : Jvm.MethodName) prog_10_method_96_code (2 : Nat) (Option.some Jvm.ClassFile.FieldType.int)) ∈ lw_all := lw_g (lw_at lw_m8 18 rfl) rfl
theorem q1796 : (Jvm.Cond.castable "IntervalTreeModel" "java/lang/Object") ∈ lw_tbl := lw_at lw_m8 24 rfl
theorem in_X3 : ∀ w ∈ wsX30, w ∈ lw_all := lw_in wsX30 [1308, 1310, 1312, 1314, 1316, 1318, 1320, 1322, 1324, 1326, 1328, 1330, 1332, 1334, 1336, 1338, 1340, 1342, 1344, 1346, 1348, 1350, 1352, 1354, 1356, 1358, 1360, 1362, 1364, 1366, 1368, 1370, 1372, 1374, 1376, 1378, 1380, 1382, 1384, 1386, 1388, 1390, 1392, 1394, 1396, 1398, 1400, 1402, 1404, 1406, 1408, 1410] (by decide +kernel) (by decide +kernel)
