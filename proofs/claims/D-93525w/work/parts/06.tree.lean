/-! IntervalTree -/
set_option maxRecDepth 100000
def RX1 : String := "IntervalTree"
def TX1 : u_T := fun k => match k with
  | 0 => ("IntervalTree", "byId", "[LIntervalTree$Node;", true)
  | 1 => ("IntervalTree", "filters", "[LIntervalTree$Filter;", true)
  | 2 => ("IntervalTree", "properties", "[LIntervalTree$Property;", true)
  | 3 => ("IntervalTree", "cursors", "[LIntervalTree$Cursor;", true)
  | 4 => ("IntervalTree", "root", "LIntervalTree$Node;", false)
  | 5 => ("IntervalTree", "inserted", "I", false)
  | 6 => ("IntervalTree", "nodes", "I", false)
  | 7 => ("IntervalTree", "removedNodes", "I", false)
  | 8 => ("IntervalTree", "percentage", "I", false)
  | 9 => ("IntervalTree", "rebuilds", "I", false)
  | 10 => ("IntervalTree", "rebuilt", "I", false)
  | 11 => ("IntervalTree", "filterCount", "I", false)
  | 12 => ("IntervalTree", "row", "[LIntervalTree$Node;", true)
  | 13 => ("IntervalTree", "rowLength", "I", false)
  | 14 => ("IntervalTree", "stabbed", "I", false)
  | 15 => ("IntervalTree", "stabbedWeight", "I", false)
  | 16 => ("IntervalTree", "nearest", "LIntervalTree$Node;", false)
  | 17 => ("IntervalTree", "nearestDistance", "I", false)
  | 18 => ("IntervalTree", "best", "[I", true)
  | 19 => ("IntervalTree", "after", "[I", true)
  | 20 => ("IntervalTree", "text", "[B", true)
  | 21 => ("IntervalTree", "textLength", "I", false)
  | 22 => ("IntervalTree", "savedLow", "[I", true)
  | 23 => ("IntervalTree", "savedHigh", "[I", true)
  | 24 => ("IntervalTree", "savedWeight", "[I", true)
  | 25 => ("IntervalTree", "savedLeft", "[I", true)
  | 26 => ("IntervalTree", "savedRight", "[I", true)
  | 27 => ("IntervalTree", "savedRed", "[Z", true)
  | 28 => ("IntervalTree", "savedRemoved", "[Z", true)
  | 29 => ("IntervalTree", "savedRoot", "I", false)
  | 30 => ("IntervalTree", "savedInserted", "I", false)
  | 31 => ("IntervalTree", "savedPercentage", "I", false)
  | 32 => ("IntervalTree", "savedRebuilds", "I", false)
  | _ => ("IntervalTree", "savedRebuilt", "I", false)
def tyX1 : Nat → FieldType := fun k => match k with
  | 0 => .array (.object "IntervalTree$Node")
  | 1 => .array (.object "IntervalTree$Filter")
  | 2 => .array (.object "IntervalTree$Property")
  | 3 => .array (.object "IntervalTree$Cursor")
  | 4 => .object "IntervalTree$Node"
  | 5 => .int
  | 6 => .int
  | 7 => .int
  | 8 => .int
  | 9 => .int
  | 10 => .int
  | 11 => .int
  | 12 => .array (.object "IntervalTree$Node")
  | 13 => .int
  | 14 => .int
  | 15 => .int
  | 16 => .object "IntervalTree$Node"
  | 17 => .int
  | 18 => .array .int
  | 19 => .array .int
  | 20 => .array .byte
  | 21 => .int
  | 22 => .array .int
  | 23 => .array .int
  | 24 => .array .int
  | 25 => .array .int
  | 26 => .array .int
  | 27 => .array .boolean
  | 28 => .array .boolean
  | 29 => .int
  | 30 => .int
  | 31 => .int
  | 32 => .int
  | _ => .int
abbrev wsX10 : List Cond := u_ws RX1 TX1 34
set_option maxRecDepth 100000 in
theorem nmX1 : ∀ a, a < 34 → ∀ b, b < 34 → a ≠ b → (TX1 a).2.1 ≠ (TX1 b).2.1 := by decide +kernel
set_option maxRecDepth 100000 in
theorem tyX1_ok : ∀ k, k < 34 → parseFieldDescriptor (TX1 k).2.2.1 = some (tyX1 k) := by decide +kernel
abbrev cX1_init : ByteArray := prog_1_method_1_code
def yX1_init : MethodName := ⟨RX1, "<init>", "()V"⟩
def dkwX1_init_0 : List UInt8 := [42, 16, 50, 183, 0, 1, 177]
abbrev dktX1_init_0 : List UInt8 := dkwX1_init_0 ++ []
theorem dksX1_init_0 : cX1_init.data.toList.drop 0 = dktX1_init_0 := by decide +kernel
theorem dX1_init_0 : decode cX1_init 0 = .ok (.aload_n 0, 1) := dk_42 (dk_at dksX1_init_0 0 rfl rfl)
theorem dX1_init_1 : decode cX1_init 1 = .ok (.bipush 50, 2) := dk_16 50 (dk_at dksX1_init_0 1 rfl rfl)
theorem dX1_init_3 : decode cX1_init 3 = .ok (.invokespecial 1, 3) := dk_183 0 1 (dk_at dksX1_init_0 3 rfl rfl)
theorem dX1_init_6 : decode cX1_init 6 = .ok (.return_, 1) := dk_177 (dk_at dksX1_init_0 6 rfl rfl)
abbrev cX1_init_2 : ByteArray := prog_1_method_2_code
def yX1_init_2 : MethodName := ⟨RX1, "<init>", "(I)V"⟩
def dkwX1_init_2_11 : List UInt8 := [181, 0, 97, 177]
abbrev dktX1_init_2_11 : List UInt8 := dkwX1_init_2_11 ++ []
def dkwX1_init_2_10 : List UInt8 := [17, 1, 244, 188, 4, 181, 0, 87, 42, 17, 1, 244, 188, 4, 181, 0, 91, 42, 2, 181, 0, 94, 42, 27]
abbrev dktX1_init_2_10 : List UInt8 := dkwX1_init_2_10 ++ dktX1_init_2_11
def dkwX1_init_2_9 : List UInt8 := [181, 0, 78, 42, 17, 1, 244, 188, 10, 181, 0, 81, 42, 17, 1, 244, 188, 10, 181, 0, 84, 42]
abbrev dktX1_init_2_9 : List UInt8 := dkwX1_init_2_9 ++ dktX1_init_2_10
def dkwX1_init_2_8 : List UInt8 := [17, 1, 244, 188, 10, 181, 0, 72, 42, 17, 1, 244, 188, 10, 181, 0, 75, 42, 17, 1, 244, 188, 10]
abbrev dktX1_init_2_8 : List UInt8 := dkwX1_init_2_8 ++ dktX1_init_2_9
def dkwX1_init_2_7 : List UInt8 := [16, 101, 188, 10, 181, 0, 61, 42, 16, 100, 188, 10, 181, 0, 65, 42, 16, 60, 188, 8, 181, 0, 68, 42]
abbrev dktX1_init_2_7 : List UInt8 := dkwX1_init_2_7 ++ dktX1_init_2_8
def dkwX1_init_2_6 : List UInt8 := [187, 0, 30, 89, 183, 0, 57, 83, 132, 2, 1, 167, 255, 235, 42, 16, 100, 189, 0, 12, 181, 0, 58, 42]
abbrev dktX1_init_2_6 : List UInt8 := dkwX1_init_2_6 ++ dktX1_init_2_7
def dkwX1_init_2_5 : List UInt8 := [186, 0, 50, 0, 0, 83, 42, 6, 181, 0, 53, 3, 61, 28, 7, 162, 0, 22, 42, 180, 0, 32, 28]
abbrev dktX1_init_2_5 : List UInt8 := dkwX1_init_2_5 ++ dktX1_init_2_6
def dkwX1_init_2_4 : List UInt8 := [186, 0, 45, 0, 0, 83, 42, 180, 0, 20, 4, 186, 0, 49, 0, 0, 83, 42, 180, 0, 20, 5, 42]
abbrev dktX1_init_2_4 : List UInt8 := dkwX1_init_2_4 ++ dktX1_init_2_5
def dkwX1_init_2_3 : List UInt8 := [186, 0, 41, 0, 0, 83, 42, 180, 0, 26, 6, 186, 0, 44, 0, 0, 83, 42, 180, 0, 20, 3]
abbrev dktX1_init_2_3 : List UInt8 := dkwX1_init_2_3 ++ dktX1_init_2_4
def dkwX1_init_2_2 : List UInt8 := [186, 0, 36, 0, 0, 83, 42, 180, 0, 26, 4, 186, 0, 40, 0, 0, 83, 42, 180, 0, 26, 5, 42]
abbrev dktX1_init_2_2 : List UInt8 := dkwX1_init_2_2 ++ dktX1_init_2_3
def dkwX1_init_2_1 : List UInt8 := [7, 189, 0, 24, 181, 0, 26, 42, 7, 189, 0, 30, 181, 0, 32, 42, 180, 0, 26, 3]
abbrev dktX1_init_2_1 : List UInt8 := dkwX1_init_2_1 ++ dktX1_init_2_2
def dkwX1_init_2_0 : List UInt8 := [42, 183, 0, 7, 42, 17, 1, 244, 189, 0, 12, 181, 0, 14, 42, 16, 8, 189, 0, 18, 181, 0, 20, 42]
abbrev dktX1_init_2_0 : List UInt8 := dkwX1_init_2_0 ++ dktX1_init_2_1
theorem dksX1_init_2_0 : cX1_init_2.data.toList.drop 0 = dktX1_init_2_0 := by decide +kernel
theorem dksX1_init_2_1 : cX1_init_2.data.toList.drop 24 = dktX1_init_2_1 := dk_seg dksX1_init_2_0 24 rfl rfl
theorem dksX1_init_2_2 : cX1_init_2.data.toList.drop 44 = dktX1_init_2_2 := dk_seg dksX1_init_2_1 20 rfl rfl
theorem dksX1_init_2_3 : cX1_init_2.data.toList.drop 67 = dktX1_init_2_3 := dk_seg dksX1_init_2_2 23 rfl rfl
theorem dksX1_init_2_4 : cX1_init_2.data.toList.drop 89 = dktX1_init_2_4 := dk_seg dksX1_init_2_3 22 rfl rfl
theorem dksX1_init_2_5 : cX1_init_2.data.toList.drop 112 = dktX1_init_2_5 := dk_seg dksX1_init_2_4 23 rfl rfl
theorem dksX1_init_2_6 : cX1_init_2.data.toList.drop 135 = dktX1_init_2_6 := dk_seg dksX1_init_2_5 23 rfl rfl
theorem dksX1_init_2_7 : cX1_init_2.data.toList.drop 159 = dktX1_init_2_7 := dk_seg dksX1_init_2_6 24 rfl rfl
theorem dksX1_init_2_8 : cX1_init_2.data.toList.drop 183 = dktX1_init_2_8 := dk_seg dksX1_init_2_7 24 rfl rfl
theorem dksX1_init_2_9 : cX1_init_2.data.toList.drop 206 = dktX1_init_2_9 := dk_seg dksX1_init_2_8 23 rfl rfl
theorem dksX1_init_2_10 : cX1_init_2.data.toList.drop 228 = dktX1_init_2_10 := dk_seg dksX1_init_2_9 22 rfl rfl
theorem dksX1_init_2_11 : cX1_init_2.data.toList.drop 252 = dktX1_init_2_11 := dk_seg dksX1_init_2_10 24 rfl rfl
theorem dX1_init_2_0 : decode cX1_init_2 0 = .ok (.aload_n 0, 1) := dk_42 (dk_at dksX1_init_2_0 0 rfl rfl)
theorem dX1_init_2_1 : decode cX1_init_2 1 = .ok (.invokespecial 7, 3) := dk_183 0 7 (dk_at dksX1_init_2_0 1 rfl rfl)
theorem dX1_init_2_4 : decode cX1_init_2 4 = .ok (.aload_n 0, 1) := dk_42 (dk_at dksX1_init_2_0 4 rfl rfl)
theorem dX1_init_2_5 : decode cX1_init_2 5 = .ok (.sipush 500, 3) := dk_17 1 244 (dk_at dksX1_init_2_0 5 rfl rfl)
theorem dX1_init_2_8 : decode cX1_init_2 8 = .ok (.anewarray 12, 3) := dk_189 0 12 (dk_at dksX1_init_2_0 8 rfl rfl)
theorem dX1_init_2_11 : decode cX1_init_2 11 = .ok (.putfield 14, 3) := dk_181 0 14 (dk_at dksX1_init_2_0 11 rfl rfl)
theorem dX1_init_2_14 : decode cX1_init_2 14 = .ok (.aload_n 0, 1) := dk_42 (dk_at dksX1_init_2_0 14 rfl rfl)
theorem dX1_init_2_15 : decode cX1_init_2 15 = .ok (.bipush 8, 2) := dk_16 8 (dk_at dksX1_init_2_0 15 rfl rfl)
theorem dX1_init_2_17 : decode cX1_init_2 17 = .ok (.anewarray 18, 3) := dk_189 0 18 (dk_at dksX1_init_2_0 17 rfl rfl)
theorem dX1_init_2_20 : decode cX1_init_2 20 = .ok (.putfield 20, 3) := dk_181 0 20 (dk_at dksX1_init_2_0 20 rfl rfl)
theorem dX1_init_2_23 : decode cX1_init_2 23 = .ok (.aload_n 0, 1) := dk_42 (dk_at dksX1_init_2_0 23 rfl rfl)
theorem dX1_init_2_24 : decode cX1_init_2 24 = .ok (.iconst 4, 1) := dk_7 (dk_at dksX1_init_2_1 0 rfl rfl)
theorem dX1_init_2_25 : decode cX1_init_2 25 = .ok (.anewarray 24, 3) := dk_189 0 24 (dk_at dksX1_init_2_1 1 rfl rfl)
theorem dX1_init_2_28 : decode cX1_init_2 28 = .ok (.putfield 26, 3) := dk_181 0 26 (dk_at dksX1_init_2_1 4 rfl rfl)
theorem dX1_init_2_31 : decode cX1_init_2 31 = .ok (.aload_n 0, 1) := dk_42 (dk_at dksX1_init_2_1 7 rfl rfl)
theorem dX1_init_2_32 : decode cX1_init_2 32 = .ok (.iconst 4, 1) := dk_7 (dk_at dksX1_init_2_1 8 rfl rfl)
theorem dX1_init_2_33 : decode cX1_init_2 33 = .ok (.anewarray 30, 3) := dk_189 0 30 (dk_at dksX1_init_2_1 9 rfl rfl)
theorem dX1_init_2_36 : decode cX1_init_2 36 = .ok (.putfield 32, 3) := dk_181 0 32 (dk_at dksX1_init_2_1 12 rfl rfl)
theorem dX1_init_2_39 : decode cX1_init_2 39 = .ok (.aload_n 0, 1) := dk_42 (dk_at dksX1_init_2_1 15 rfl rfl)
theorem dX1_init_2_40 : decode cX1_init_2 40 = .ok (.getfield 26, 3) := dk_180 0 26 (dk_at dksX1_init_2_1 16 rfl rfl)
theorem dX1_init_2_43 : decode cX1_init_2 43 = .ok (.iconst 0, 1) := dk_3 (dk_at dksX1_init_2_1 19 rfl rfl)
theorem dX1_init_2_44 : decode cX1_init_2 44 = .ok (.invokedynamic 36, 5) := by decide +kernel
theorem dX1_init_2_49 : decode cX1_init_2 49 = .ok (.aastore, 1) := dk_83 (dk_at dksX1_init_2_2 5 rfl rfl)
theorem dX1_init_2_50 : decode cX1_init_2 50 = .ok (.aload_n 0, 1) := dk_42 (dk_at dksX1_init_2_2 6 rfl rfl)
theorem dX1_init_2_51 : decode cX1_init_2 51 = .ok (.getfield 26, 3) := dk_180 0 26 (dk_at dksX1_init_2_2 7 rfl rfl)
theorem dX1_init_2_54 : decode cX1_init_2 54 = .ok (.iconst 1, 1) := dk_4 (dk_at dksX1_init_2_2 10 rfl rfl)
theorem dX1_init_2_55 : decode cX1_init_2 55 = .ok (.invokedynamic 40, 5) := by decide +kernel
theorem dX1_init_2_60 : decode cX1_init_2 60 = .ok (.aastore, 1) := dk_83 (dk_at dksX1_init_2_2 16 rfl rfl)
theorem dX1_init_2_61 : decode cX1_init_2 61 = .ok (.aload_n 0, 1) := dk_42 (dk_at dksX1_init_2_2 17 rfl rfl)
theorem dX1_init_2_62 : decode cX1_init_2 62 = .ok (.getfield 26, 3) := dk_180 0 26 (dk_at dksX1_init_2_2 18 rfl rfl)
theorem dX1_init_2_65 : decode cX1_init_2 65 = .ok (.iconst 2, 1) := dk_5 (dk_at dksX1_init_2_2 21 rfl rfl)
theorem dX1_init_2_66 : decode cX1_init_2 66 = .ok (.aload_n 0, 1) := dk_42 (dk_at dksX1_init_2_2 22 rfl rfl)
theorem dX1_init_2_67 : decode cX1_init_2 67 = .ok (.invokedynamic 41, 5) := by decide +kernel
theorem dX1_init_2_72 : decode cX1_init_2 72 = .ok (.aastore, 1) := dk_83 (dk_at dksX1_init_2_3 5 rfl rfl)
theorem dX1_init_2_73 : decode cX1_init_2 73 = .ok (.aload_n 0, 1) := dk_42 (dk_at dksX1_init_2_3 6 rfl rfl)
theorem dX1_init_2_74 : decode cX1_init_2 74 = .ok (.getfield 26, 3) := dk_180 0 26 (dk_at dksX1_init_2_3 7 rfl rfl)
theorem dX1_init_2_77 : decode cX1_init_2 77 = .ok (.iconst 3, 1) := dk_6 (dk_at dksX1_init_2_3 10 rfl rfl)
theorem dX1_init_2_78 : decode cX1_init_2 78 = .ok (.invokedynamic 44, 5) := by decide +kernel
theorem dX1_init_2_83 : decode cX1_init_2 83 = .ok (.aastore, 1) := dk_83 (dk_at dksX1_init_2_3 16 rfl rfl)
theorem dX1_init_2_84 : decode cX1_init_2 84 = .ok (.aload_n 0, 1) := dk_42 (dk_at dksX1_init_2_3 17 rfl rfl)
theorem dX1_init_2_85 : decode cX1_init_2 85 = .ok (.getfield 20, 3) := dk_180 0 20 (dk_at dksX1_init_2_3 18 rfl rfl)
theorem dX1_init_2_88 : decode cX1_init_2 88 = .ok (.iconst 0, 1) := dk_3 (dk_at dksX1_init_2_3 21 rfl rfl)
theorem dX1_init_2_89 : decode cX1_init_2 89 = .ok (.invokedynamic 45, 5) := by decide +kernel
theorem dX1_init_2_94 : decode cX1_init_2 94 = .ok (.aastore, 1) := dk_83 (dk_at dksX1_init_2_4 5 rfl rfl)
theorem dX1_init_2_95 : decode cX1_init_2 95 = .ok (.aload_n 0, 1) := dk_42 (dk_at dksX1_init_2_4 6 rfl rfl)
theorem dX1_init_2_96 : decode cX1_init_2 96 = .ok (.getfield 20, 3) := dk_180 0 20 (dk_at dksX1_init_2_4 7 rfl rfl)
theorem dX1_init_2_99 : decode cX1_init_2 99 = .ok (.iconst 1, 1) := dk_4 (dk_at dksX1_init_2_4 10 rfl rfl)
theorem dX1_init_2_100 : decode cX1_init_2 100 = .ok (.invokedynamic 49, 5) := by decide +kernel
theorem dX1_init_2_105 : decode cX1_init_2 105 = .ok (.aastore, 1) := dk_83 (dk_at dksX1_init_2_4 16 rfl rfl)
theorem dX1_init_2_106 : decode cX1_init_2 106 = .ok (.aload_n 0, 1) := dk_42 (dk_at dksX1_init_2_4 17 rfl rfl)
theorem dX1_init_2_107 : decode cX1_init_2 107 = .ok (.getfield 20, 3) := dk_180 0 20 (dk_at dksX1_init_2_4 18 rfl rfl)
theorem dX1_init_2_110 : decode cX1_init_2 110 = .ok (.iconst 2, 1) := dk_5 (dk_at dksX1_init_2_4 21 rfl rfl)
theorem dX1_init_2_111 : decode cX1_init_2 111 = .ok (.aload_n 0, 1) := dk_42 (dk_at dksX1_init_2_4 22 rfl rfl)
theorem dX1_init_2_112 : decode cX1_init_2 112 = .ok (.invokedynamic 50, 5) := by decide +kernel
theorem dX1_init_2_117 : decode cX1_init_2 117 = .ok (.aastore, 1) := dk_83 (dk_at dksX1_init_2_5 5 rfl rfl)
theorem dX1_init_2_118 : decode cX1_init_2 118 = .ok (.aload_n 0, 1) := dk_42 (dk_at dksX1_init_2_5 6 rfl rfl)
theorem dX1_init_2_119 : decode cX1_init_2 119 = .ok (.iconst 3, 1) := dk_6 (dk_at dksX1_init_2_5 7 rfl rfl)
theorem dX1_init_2_120 : decode cX1_init_2 120 = .ok (.putfield 53, 3) := dk_181 0 53 (dk_at dksX1_init_2_5 8 rfl rfl)
theorem dX1_init_2_123 : decode cX1_init_2 123 = .ok (.iconst 0, 1) := dk_3 (dk_at dksX1_init_2_5 11 rfl rfl)
theorem dX1_init_2_124 : decode cX1_init_2 124 = .ok (.istore_n 2, 1) := dk_61 (dk_at dksX1_init_2_5 12 rfl rfl)
theorem dX1_init_2_125 : decode cX1_init_2 125 = .ok (.iload_n 2, 1) := dk_28 (dk_at dksX1_init_2_5 13 rfl rfl)
theorem dX1_init_2_126 : decode cX1_init_2 126 = .ok (.iconst 4, 1) := dk_7 (dk_at dksX1_init_2_5 14 rfl rfl)
theorem dX1_init_2_127 : decode cX1_init_2 127 = .ok (.if_icmp .ge 22, 3) := dk_162 0 22 (dk_at dksX1_init_2_5 15 rfl rfl)
theorem dX1_init_2_130 : decode cX1_init_2 130 = .ok (.aload_n 0, 1) := dk_42 (dk_at dksX1_init_2_5 18 rfl rfl)
theorem dX1_init_2_131 : decode cX1_init_2 131 = .ok (.getfield 32, 3) := dk_180 0 32 (dk_at dksX1_init_2_5 19 rfl rfl)
theorem dX1_init_2_134 : decode cX1_init_2 134 = .ok (.iload_n 2, 1) := dk_28 (dk_at dksX1_init_2_5 22 rfl rfl)
theorem dX1_init_2_135 : decode cX1_init_2 135 = .ok (.new 30, 3) := dk_187 0 30 (dk_at dksX1_init_2_6 0 rfl rfl)
theorem dX1_init_2_138 : decode cX1_init_2 138 = .ok (.dup, 1) := dk_89 (dk_at dksX1_init_2_6 3 rfl rfl)
theorem dX1_init_2_139 : decode cX1_init_2 139 = .ok (.invokespecial 57, 3) := dk_183 0 57 (dk_at dksX1_init_2_6 4 rfl rfl)
theorem dX1_init_2_142 : decode cX1_init_2 142 = .ok (.aastore, 1) := dk_83 (dk_at dksX1_init_2_6 7 rfl rfl)
theorem dX1_init_2_143 : decode cX1_init_2 143 = .ok (.iinc 2 1, 3) := dk_132 2 1 (dk_at dksX1_init_2_6 8 rfl rfl)
theorem dX1_init_2_146 : decode cX1_init_2 146 = .ok (.goto (-21), 3) := dk_167 255 235 (dk_at dksX1_init_2_6 11 rfl rfl)
theorem dX1_init_2_149 : decode cX1_init_2 149 = .ok (.aload_n 0, 1) := dk_42 (dk_at dksX1_init_2_6 14 rfl rfl)
theorem dX1_init_2_150 : decode cX1_init_2 150 = .ok (.bipush 100, 2) := dk_16 100 (dk_at dksX1_init_2_6 15 rfl rfl)
theorem dX1_init_2_152 : decode cX1_init_2 152 = .ok (.anewarray 12, 3) := dk_189 0 12 (dk_at dksX1_init_2_6 17 rfl rfl)
theorem dX1_init_2_155 : decode cX1_init_2 155 = .ok (.putfield 58, 3) := dk_181 0 58 (dk_at dksX1_init_2_6 20 rfl rfl)
theorem dX1_init_2_158 : decode cX1_init_2 158 = .ok (.aload_n 0, 1) := dk_42 (dk_at dksX1_init_2_6 23 rfl rfl)
theorem dX1_init_2_159 : decode cX1_init_2 159 = .ok (.bipush 101, 2) := dk_16 101 (dk_at dksX1_init_2_7 0 rfl rfl)
theorem dX1_init_2_161 : decode cX1_init_2 161 = .ok (.newarray .int, 2) := dk_188_10 (dk_at dksX1_init_2_7 2 rfl rfl)
theorem dX1_init_2_163 : decode cX1_init_2 163 = .ok (.putfield 61, 3) := dk_181 0 61 (dk_at dksX1_init_2_7 4 rfl rfl)
theorem dX1_init_2_166 : decode cX1_init_2 166 = .ok (.aload_n 0, 1) := dk_42 (dk_at dksX1_init_2_7 7 rfl rfl)
theorem dX1_init_2_167 : decode cX1_init_2 167 = .ok (.bipush 100, 2) := dk_16 100 (dk_at dksX1_init_2_7 8 rfl rfl)
theorem dX1_init_2_169 : decode cX1_init_2 169 = .ok (.newarray .int, 2) := dk_188_10 (dk_at dksX1_init_2_7 10 rfl rfl)
theorem dX1_init_2_171 : decode cX1_init_2 171 = .ok (.putfield 65, 3) := dk_181 0 65 (dk_at dksX1_init_2_7 12 rfl rfl)
theorem dX1_init_2_174 : decode cX1_init_2 174 = .ok (.aload_n 0, 1) := dk_42 (dk_at dksX1_init_2_7 15 rfl rfl)
theorem dX1_init_2_175 : decode cX1_init_2 175 = .ok (.bipush 60, 2) := dk_16 60 (dk_at dksX1_init_2_7 16 rfl rfl)
theorem dX1_init_2_177 : decode cX1_init_2 177 = .ok (.newarray .byte, 2) := dk_188_8 (dk_at dksX1_init_2_7 18 rfl rfl)
theorem dX1_init_2_179 : decode cX1_init_2 179 = .ok (.putfield 68, 3) := dk_181 0 68 (dk_at dksX1_init_2_7 20 rfl rfl)
theorem dX1_init_2_182 : decode cX1_init_2 182 = .ok (.aload_n 0, 1) := dk_42 (dk_at dksX1_init_2_7 23 rfl rfl)
theorem dX1_init_2_183 : decode cX1_init_2 183 = .ok (.sipush 500, 3) := dk_17 1 244 (dk_at dksX1_init_2_8 0 rfl rfl)
theorem dX1_init_2_186 : decode cX1_init_2 186 = .ok (.newarray .int, 2) := dk_188_10 (dk_at dksX1_init_2_8 3 rfl rfl)
theorem dX1_init_2_188 : decode cX1_init_2 188 = .ok (.putfield 72, 3) := dk_181 0 72 (dk_at dksX1_init_2_8 5 rfl rfl)
theorem dX1_init_2_191 : decode cX1_init_2 191 = .ok (.aload_n 0, 1) := dk_42 (dk_at dksX1_init_2_8 8 rfl rfl)
theorem dX1_init_2_192 : decode cX1_init_2 192 = .ok (.sipush 500, 3) := dk_17 1 244 (dk_at dksX1_init_2_8 9 rfl rfl)
theorem dX1_init_2_195 : decode cX1_init_2 195 = .ok (.newarray .int, 2) := dk_188_10 (dk_at dksX1_init_2_8 12 rfl rfl)
theorem dX1_init_2_197 : decode cX1_init_2 197 = .ok (.putfield 75, 3) := dk_181 0 75 (dk_at dksX1_init_2_8 14 rfl rfl)
theorem dX1_init_2_200 : decode cX1_init_2 200 = .ok (.aload_n 0, 1) := dk_42 (dk_at dksX1_init_2_8 17 rfl rfl)
theorem dX1_init_2_201 : decode cX1_init_2 201 = .ok (.sipush 500, 3) := dk_17 1 244 (dk_at dksX1_init_2_8 18 rfl rfl)
theorem dX1_init_2_204 : decode cX1_init_2 204 = .ok (.newarray .int, 2) := dk_188_10 (dk_at dksX1_init_2_8 21 rfl rfl)
theorem dX1_init_2_206 : decode cX1_init_2 206 = .ok (.putfield 78, 3) := dk_181 0 78 (dk_at dksX1_init_2_9 0 rfl rfl)
theorem dX1_init_2_209 : decode cX1_init_2 209 = .ok (.aload_n 0, 1) := dk_42 (dk_at dksX1_init_2_9 3 rfl rfl)
theorem dX1_init_2_210 : decode cX1_init_2 210 = .ok (.sipush 500, 3) := dk_17 1 244 (dk_at dksX1_init_2_9 4 rfl rfl)
theorem dX1_init_2_213 : decode cX1_init_2 213 = .ok (.newarray .int, 2) := dk_188_10 (dk_at dksX1_init_2_9 7 rfl rfl)
theorem dX1_init_2_215 : decode cX1_init_2 215 = .ok (.putfield 81, 3) := dk_181 0 81 (dk_at dksX1_init_2_9 9 rfl rfl)
theorem dX1_init_2_218 : decode cX1_init_2 218 = .ok (.aload_n 0, 1) := dk_42 (dk_at dksX1_init_2_9 12 rfl rfl)
theorem dX1_init_2_219 : decode cX1_init_2 219 = .ok (.sipush 500, 3) := dk_17 1 244 (dk_at dksX1_init_2_9 13 rfl rfl)
theorem dX1_init_2_222 : decode cX1_init_2 222 = .ok (.newarray .int, 2) := dk_188_10 (dk_at dksX1_init_2_9 16 rfl rfl)
theorem dX1_init_2_224 : decode cX1_init_2 224 = .ok (.putfield 84, 3) := dk_181 0 84 (dk_at dksX1_init_2_9 18 rfl rfl)
theorem dX1_init_2_227 : decode cX1_init_2 227 = .ok (.aload_n 0, 1) := dk_42 (dk_at dksX1_init_2_9 21 rfl rfl)
theorem dX1_init_2_228 : decode cX1_init_2 228 = .ok (.sipush 500, 3) := dk_17 1 244 (dk_at dksX1_init_2_10 0 rfl rfl)
theorem dX1_init_2_231 : decode cX1_init_2 231 = .ok (.newarray .boolean, 2) := dk_188_4 (dk_at dksX1_init_2_10 3 rfl rfl)
theorem dX1_init_2_233 : decode cX1_init_2 233 = .ok (.putfield 87, 3) := dk_181 0 87 (dk_at dksX1_init_2_10 5 rfl rfl)
theorem dX1_init_2_236 : decode cX1_init_2 236 = .ok (.aload_n 0, 1) := dk_42 (dk_at dksX1_init_2_10 8 rfl rfl)
theorem dX1_init_2_237 : decode cX1_init_2 237 = .ok (.sipush 500, 3) := dk_17 1 244 (dk_at dksX1_init_2_10 9 rfl rfl)
theorem dX1_init_2_240 : decode cX1_init_2 240 = .ok (.newarray .boolean, 2) := dk_188_4 (dk_at dksX1_init_2_10 12 rfl rfl)
theorem dX1_init_2_242 : decode cX1_init_2 242 = .ok (.putfield 91, 3) := dk_181 0 91 (dk_at dksX1_init_2_10 14 rfl rfl)
theorem dX1_init_2_245 : decode cX1_init_2 245 = .ok (.aload_n 0, 1) := dk_42 (dk_at dksX1_init_2_10 17 rfl rfl)
theorem dX1_init_2_246 : decode cX1_init_2 246 = .ok (.iconst (-1), 1) := dk_2 (dk_at dksX1_init_2_10 18 rfl rfl)
theorem dX1_init_2_247 : decode cX1_init_2 247 = .ok (.putfield 94, 3) := dk_181 0 94 (dk_at dksX1_init_2_10 19 rfl rfl)
theorem dX1_init_2_250 : decode cX1_init_2 250 = .ok (.aload_n 0, 1) := dk_42 (dk_at dksX1_init_2_10 22 rfl rfl)
theorem dX1_init_2_251 : decode cX1_init_2 251 = .ok (.iload_n 1, 1) := dk_27 (dk_at dksX1_init_2_10 23 rfl rfl)
theorem dX1_init_2_252 : decode cX1_init_2 252 = .ok (.putfield 97, 3) := dk_181 0 97 (dk_at dksX1_init_2_11 0 rfl rfl)
theorem dX1_init_2_255 : decode cX1_init_2 255 = .ok (.return_, 1) := dk_177 (dk_at dksX1_init_2_11 3 rfl rfl)
abbrev cX1_lambda_new_0 : ByteArray := prog_1_method_114_code
def yX1_lambda_new_0 : MethodName := ⟨RX1, "lambda$new$0", "(LIntervalTree$Node;)I"⟩
theorem dX1_lambda_new_0_0 : decode cX1_lambda_new_0 0 = .ok (.aload_n 0, 1) := by decide +kernel
theorem dX1_lambda_new_0_1 : decode cX1_lambda_new_0 1 = .ok (.getfield 107, 3) := by decide +kernel
theorem dX1_lambda_new_0_4 : decode cX1_lambda_new_0 4 = .ok (.ireturn, 1) := by decide +kernel
abbrev cX1_lambda_new_1 : ByteArray := prog_1_method_113_code
def yX1_lambda_new_1 : MethodName := ⟨RX1, "lambda$new$1", "(LIntervalTree$Node;)I"⟩
theorem dX1_lambda_new_1_0 : decode cX1_lambda_new_1 0 = .ok (.aload_n 0, 1) := by decide +kernel
theorem dX1_lambda_new_1_1 : decode cX1_lambda_new_1 1 = .ok (.getfield 110, 3) := by decide +kernel
theorem dX1_lambda_new_1_4 : decode cX1_lambda_new_1 4 = .ok (.ireturn, 1) := by decide +kernel
abbrev cX1_weightOf : ByteArray := prog_1_method_8_code
def yX1_weightOf : MethodName := ⟨RX1, "weightOf", "(LIntervalTree$Node;)I"⟩
def dkwX1_weightOf_1 : List UInt8 := [180, 0, 137, 78, 167, 255, 240, 28, 172]
abbrev dktX1_weightOf_1 : List UInt8 := dkwX1_weightOf_1 ++ []
def dkwX1_weightOf_0 : List UInt8 := [43, 180, 0, 134, 61, 43, 180, 0, 137, 78, 45, 198, 0, 18, 28, 45, 180, 0, 141, 96, 61, 45]
abbrev dktX1_weightOf_0 : List UInt8 := dkwX1_weightOf_0 ++ dktX1_weightOf_1
theorem dksX1_weightOf_0 : cX1_weightOf.data.toList.drop 0 = dktX1_weightOf_0 := by decide +kernel
theorem dksX1_weightOf_1 : cX1_weightOf.data.toList.drop 22 = dktX1_weightOf_1 := dk_seg dksX1_weightOf_0 22 rfl rfl
theorem dX1_weightOf_0 : decode cX1_weightOf 0 = .ok (.aload_n 1, 1) := dk_43 (dk_at dksX1_weightOf_0 0 rfl rfl)
theorem dX1_weightOf_1 : decode cX1_weightOf 1 = .ok (.getfield 134, 3) := dk_180 0 134 (dk_at dksX1_weightOf_0 1 rfl rfl)
theorem dX1_weightOf_4 : decode cX1_weightOf 4 = .ok (.istore_n 2, 1) := dk_61 (dk_at dksX1_weightOf_0 4 rfl rfl)
theorem dX1_weightOf_5 : decode cX1_weightOf 5 = .ok (.aload_n 1, 1) := dk_43 (dk_at dksX1_weightOf_0 5 rfl rfl)
theorem dX1_weightOf_6 : decode cX1_weightOf 6 = .ok (.getfield 137, 3) := dk_180 0 137 (dk_at dksX1_weightOf_0 6 rfl rfl)
theorem dX1_weightOf_9 : decode cX1_weightOf 9 = .ok (.astore_n 3, 1) := dk_78 (dk_at dksX1_weightOf_0 9 rfl rfl)
theorem dX1_weightOf_10 : decode cX1_weightOf 10 = .ok (.aload_n 3, 1) := dk_45 (dk_at dksX1_weightOf_0 10 rfl rfl)
theorem dX1_weightOf_11 : decode cX1_weightOf 11 = .ok (.ifnull 18, 3) := dk_198 0 18 (dk_at dksX1_weightOf_0 11 rfl rfl)
theorem dX1_weightOf_14 : decode cX1_weightOf 14 = .ok (.iload_n 2, 1) := dk_28 (dk_at dksX1_weightOf_0 14 rfl rfl)
theorem dX1_weightOf_15 : decode cX1_weightOf 15 = .ok (.aload_n 3, 1) := dk_45 (dk_at dksX1_weightOf_0 15 rfl rfl)
theorem dX1_weightOf_16 : decode cX1_weightOf 16 = .ok (.getfield 141, 3) := dk_180 0 141 (dk_at dksX1_weightOf_0 16 rfl rfl)
theorem dX1_weightOf_19 : decode cX1_weightOf 19 = .ok (.iadd, 1) := dk_96 (dk_at dksX1_weightOf_0 19 rfl rfl)
theorem dX1_weightOf_20 : decode cX1_weightOf 20 = .ok (.istore_n 2, 1) := dk_61 (dk_at dksX1_weightOf_0 20 rfl rfl)
theorem dX1_weightOf_21 : decode cX1_weightOf 21 = .ok (.aload_n 3, 1) := dk_45 (dk_at dksX1_weightOf_0 21 rfl rfl)
theorem dX1_weightOf_22 : decode cX1_weightOf 22 = .ok (.getfield 137, 3) := dk_180 0 137 (dk_at dksX1_weightOf_1 0 rfl rfl)
theorem dX1_weightOf_25 : decode cX1_weightOf 25 = .ok (.astore_n 3, 1) := dk_78 (dk_at dksX1_weightOf_1 3 rfl rfl)
theorem dX1_weightOf_26 : decode cX1_weightOf 26 = .ok (.goto (-16), 3) := dk_167 255 240 (dk_at dksX1_weightOf_1 4 rfl rfl)
theorem dX1_weightOf_29 : decode cX1_weightOf 29 = .ok (.iload_n 2, 1) := dk_28 (dk_at dksX1_weightOf_1 7 rfl rfl)
theorem dX1_weightOf_30 : decode cX1_weightOf 30 = .ok (.ireturn, 1) := dk_172 (dk_at dksX1_weightOf_1 8 rfl rfl)
abbrev cX1_lambda_new_2 : ByteArray := prog_1_method_112_code
def yX1_lambda_new_2 : MethodName := ⟨RX1, "lambda$new$2", "(LIntervalTree$Node;)I"⟩
def dkwX1_lambda_new_2_0 : List UInt8 := [42, 180, 0, 110, 42, 180, 0, 107, 100, 172]
abbrev dktX1_lambda_new_2_0 : List UInt8 := dkwX1_lambda_new_2_0 ++ []
theorem dksX1_lambda_new_2_0 : cX1_lambda_new_2.data.toList.drop 0 = dktX1_lambda_new_2_0 := by decide +kernel
theorem dX1_lambda_new_2_0 : decode cX1_lambda_new_2 0 = .ok (.aload_n 0, 1) := dk_42 (dk_at dksX1_lambda_new_2_0 0 rfl rfl)
theorem dX1_lambda_new_2_1 : decode cX1_lambda_new_2 1 = .ok (.getfield 110, 3) := dk_180 0 110 (dk_at dksX1_lambda_new_2_0 1 rfl rfl)
theorem dX1_lambda_new_2_4 : decode cX1_lambda_new_2 4 = .ok (.aload_n 0, 1) := dk_42 (dk_at dksX1_lambda_new_2_0 4 rfl rfl)
theorem dX1_lambda_new_2_5 : decode cX1_lambda_new_2 5 = .ok (.getfield 107, 3) := dk_180 0 107 (dk_at dksX1_lambda_new_2_0 5 rfl rfl)
theorem dX1_lambda_new_2_8 : decode cX1_lambda_new_2 8 = .ok (.isub, 1) := dk_100 (dk_at dksX1_lambda_new_2_0 8 rfl rfl)
theorem dX1_lambda_new_2_9 : decode cX1_lambda_new_2 9 = .ok (.ireturn, 1) := dk_172 (dk_at dksX1_lambda_new_2_0 9 rfl rfl)
abbrev cX1_lambda_new_3 : ByteArray := prog_1_method_111_code
def yX1_lambda_new_3 : MethodName := ⟨RX1, "lambda$new$3", "(LIntervalTree$Node;)Z"⟩
theorem dX1_lambda_new_3_0 : decode cX1_lambda_new_3 0 = .ok (.iconst 1, 1) := by decide +kernel
theorem dX1_lambda_new_3_1 : decode cX1_lambda_new_3 1 = .ok (.ireturn, 1) := by decide +kernel
abbrev cX1_isPoint : ByteArray := prog_1_method_5_code
def yX1_isPoint : MethodName := ⟨RX1, "isPoint", "(LIntervalTree$Node;)Z"⟩
def dkwX1_isPoint_0 : List UInt8 := [42, 180, 0, 107, 42, 180, 0, 110, 160, 0, 7, 4, 167, 0, 4, 3, 172]
abbrev dktX1_isPoint_0 : List UInt8 := dkwX1_isPoint_0 ++ []
theorem dksX1_isPoint_0 : cX1_isPoint.data.toList.drop 0 = dktX1_isPoint_0 := by decide +kernel
theorem dX1_isPoint_0 : decode cX1_isPoint 0 = .ok (.aload_n 0, 1) := dk_42 (dk_at dksX1_isPoint_0 0 rfl rfl)
theorem dX1_isPoint_1 : decode cX1_isPoint 1 = .ok (.getfield 107, 3) := dk_180 0 107 (dk_at dksX1_isPoint_0 1 rfl rfl)
theorem dX1_isPoint_4 : decode cX1_isPoint 4 = .ok (.aload_n 0, 1) := dk_42 (dk_at dksX1_isPoint_0 4 rfl rfl)
theorem dX1_isPoint_5 : decode cX1_isPoint 5 = .ok (.getfield 110, 3) := dk_180 0 110 (dk_at dksX1_isPoint_0 5 rfl rfl)
theorem dX1_isPoint_8 : decode cX1_isPoint 8 = .ok (.if_icmp .ne 7, 3) := dk_160 0 7 (dk_at dksX1_isPoint_0 8 rfl rfl)
theorem dX1_isPoint_11 : decode cX1_isPoint 11 = .ok (.iconst 1, 1) := dk_4 (dk_at dksX1_isPoint_0 11 rfl rfl)
theorem dX1_isPoint_12 : decode cX1_isPoint 12 = .ok (.goto 4, 3) := dk_167 0 4 (dk_at dksX1_isPoint_0 12 rfl rfl)
theorem dX1_isPoint_15 : decode cX1_isPoint 15 = .ok (.iconst 0, 1) := dk_3 (dk_at dksX1_isPoint_0 15 rfl rfl)
theorem dX1_isPoint_16 : decode cX1_isPoint 16 = .ok (.ireturn, 1) := dk_172 (dk_at dksX1_isPoint_0 16 rfl rfl)
abbrev cX1_isCrowded : ByteArray := prog_1_method_77_code
def yX1_isCrowded : MethodName := ⟨RX1, "isCrowded", "(LIntervalTree$Node;)Z"⟩
def dkwX1_isCrowded_1 : List UInt8 := [153, 0, 7, 3, 167, 0, 4, 4, 100, 158, 0, 7, 4, 167, 0, 4, 3, 172]
abbrev dktX1_isCrowded_1 : List UInt8 := dkwX1_isCrowded_1 ++ []
def dkwX1_isCrowded_0 : List UInt8 := [42, 180, 0, 173, 43, 180, 0, 107, 43, 180, 0, 110, 5, 184, 1, 134, 61, 28, 43, 180, 0, 129]
abbrev dktX1_isCrowded_0 : List UInt8 := dkwX1_isCrowded_0 ++ dktX1_isCrowded_1
theorem dksX1_isCrowded_0 : cX1_isCrowded.data.toList.drop 0 = dktX1_isCrowded_0 := by decide +kernel
theorem dksX1_isCrowded_1 : cX1_isCrowded.data.toList.drop 22 = dktX1_isCrowded_1 := dk_seg dksX1_isCrowded_0 22 rfl rfl
theorem dX1_isCrowded_0 : decode cX1_isCrowded 0 = .ok (.aload_n 0, 1) := dk_42 (dk_at dksX1_isCrowded_0 0 rfl rfl)
theorem dX1_isCrowded_1 : decode cX1_isCrowded 1 = .ok (.getfield 173, 3) := dk_180 0 173 (dk_at dksX1_isCrowded_0 1 rfl rfl)
theorem dX1_isCrowded_4 : decode cX1_isCrowded 4 = .ok (.aload_n 1, 1) := dk_43 (dk_at dksX1_isCrowded_0 4 rfl rfl)
theorem dX1_isCrowded_5 : decode cX1_isCrowded 5 = .ok (.getfield 107, 3) := dk_180 0 107 (dk_at dksX1_isCrowded_0 5 rfl rfl)
theorem dX1_isCrowded_8 : decode cX1_isCrowded 8 = .ok (.aload_n 1, 1) := dk_43 (dk_at dksX1_isCrowded_0 8 rfl rfl)
theorem dX1_isCrowded_9 : decode cX1_isCrowded 9 = .ok (.getfield 110, 3) := dk_180 0 110 (dk_at dksX1_isCrowded_0 9 rfl rfl)
theorem dX1_isCrowded_12 : decode cX1_isCrowded 12 = .ok (.iconst 2, 1) := dk_5 (dk_at dksX1_isCrowded_0 12 rfl rfl)
theorem dX1_isCrowded_13 : decode cX1_isCrowded 13 = .ok (.invokestatic 390, 3) := dk_184 1 134 (dk_at dksX1_isCrowded_0 13 rfl rfl)
theorem dX1_isCrowded_16 : decode cX1_isCrowded 16 = .ok (.istore_n 2, 1) := dk_61 (dk_at dksX1_isCrowded_0 16 rfl rfl)
theorem dX1_isCrowded_17 : decode cX1_isCrowded 17 = .ok (.iload_n 2, 1) := dk_28 (dk_at dksX1_isCrowded_0 17 rfl rfl)
theorem dX1_isCrowded_18 : decode cX1_isCrowded 18 = .ok (.aload_n 1, 1) := dk_43 (dk_at dksX1_isCrowded_0 18 rfl rfl)
theorem dX1_isCrowded_19 : decode cX1_isCrowded 19 = .ok (.getfield 129, 3) := dk_180 0 129 (dk_at dksX1_isCrowded_0 19 rfl rfl)
theorem dX1_isCrowded_22 : decode cX1_isCrowded 22 = .ok (.ifCond .eq 7, 3) := dk_153 0 7 (dk_at dksX1_isCrowded_1 0 rfl rfl)
theorem dX1_isCrowded_25 : decode cX1_isCrowded 25 = .ok (.iconst 0, 1) := dk_3 (dk_at dksX1_isCrowded_1 3 rfl rfl)
theorem dX1_isCrowded_26 : decode cX1_isCrowded 26 = .ok (.goto 4, 3) := dk_167 0 4 (dk_at dksX1_isCrowded_1 4 rfl rfl)
theorem dX1_isCrowded_29 : decode cX1_isCrowded 29 = .ok (.iconst 1, 1) := dk_4 (dk_at dksX1_isCrowded_1 7 rfl rfl)
theorem dX1_isCrowded_30 : decode cX1_isCrowded 30 = .ok (.isub, 1) := dk_100 (dk_at dksX1_isCrowded_1 8 rfl rfl)
theorem dX1_isCrowded_31 : decode cX1_isCrowded 31 = .ok (.ifCond .le 7, 3) := dk_158 0 7 (dk_at dksX1_isCrowded_1 9 rfl rfl)
theorem dX1_isCrowded_34 : decode cX1_isCrowded 34 = .ok (.iconst 1, 1) := dk_4 (dk_at dksX1_isCrowded_1 12 rfl rfl)
theorem dX1_isCrowded_35 : decode cX1_isCrowded 35 = .ok (.goto 4, 3) := dk_167 0 4 (dk_at dksX1_isCrowded_1 13 rfl rfl)
theorem dX1_isCrowded_38 : decode cX1_isCrowded 38 = .ok (.iconst 0, 1) := dk_3 (dk_at dksX1_isCrowded_1 16 rfl rfl)
theorem dX1_isCrowded_39 : decode cX1_isCrowded 39 = .ok (.ireturn, 1) := dk_172 (dk_at dksX1_isCrowded_1 17 rfl rfl)
abbrev cX1_stabbedBy : ByteArray := prog_1_method_78_code
def yX1_stabbedBy : MethodName := ⟨RX1, "stabbedBy", "(LIntervalTree$Node;III)I"⟩
def dkwX1_stabbedBy_4 : List UInt8 := [172]
abbrev dktX1_stabbedBy_4 : List UInt8 := dkwX1_stabbedBy_4 ++ []
def dkwX1_stabbedBy_3 : List UInt8 := [164, 0, 8, 21, 4, 167, 0, 19, 21, 4, 42, 180, 0, 170, 27, 28, 29, 21, 4, 100, 184, 1, 134, 96]
abbrev dktX1_stabbedBy_3 : List UInt8 := dkwX1_stabbedBy_3 ++ dktX1_stabbedBy_4
def dkwX1_stabbedBy_2 : List UInt8 := [21, 4, 42, 180, 0, 163, 27, 28, 29, 21, 4, 100, 184, 1, 134, 96, 54, 4, 42, 180, 0, 107, 28]
abbrev dktX1_stabbedBy_2 : List UInt8 := dkwX1_stabbedBy_2 ++ dktX1_stabbedBy_3
def dkwX1_stabbedBy_1 : List UInt8 := [172, 42, 180, 0, 129, 154, 0, 16, 42, 27, 28, 182, 1, 73, 153, 0, 7, 4, 167, 0, 4, 3, 54, 4]
abbrev dktX1_stabbedBy_1 : List UInt8 := dkwX1_stabbedBy_1 ++ dktX1_stabbedBy_2
def dkwX1_stabbedBy_0 : List UInt8 := [42, 198, 0, 22, 42, 180, 0, 176, 153, 0, 15, 42, 180, 1, 42, 27, 161, 0, 7, 29, 157, 0, 5, 3]
abbrev dktX1_stabbedBy_0 : List UInt8 := dkwX1_stabbedBy_0 ++ dktX1_stabbedBy_1
theorem dksX1_stabbedBy_0 : cX1_stabbedBy.data.toList.drop 0 = dktX1_stabbedBy_0 := by decide +kernel
theorem dksX1_stabbedBy_1 : cX1_stabbedBy.data.toList.drop 24 = dktX1_stabbedBy_1 := dk_seg dksX1_stabbedBy_0 24 rfl rfl
theorem dksX1_stabbedBy_2 : cX1_stabbedBy.data.toList.drop 48 = dktX1_stabbedBy_2 := dk_seg dksX1_stabbedBy_1 24 rfl rfl
theorem dksX1_stabbedBy_3 : cX1_stabbedBy.data.toList.drop 71 = dktX1_stabbedBy_3 := dk_seg dksX1_stabbedBy_2 23 rfl rfl
theorem dksX1_stabbedBy_4 : cX1_stabbedBy.data.toList.drop 95 = dktX1_stabbedBy_4 := dk_seg dksX1_stabbedBy_3 24 rfl rfl
theorem dX1_stabbedBy_0 : decode cX1_stabbedBy 0 = .ok (.aload_n 0, 1) := dk_42 (dk_at dksX1_stabbedBy_0 0 rfl rfl)
theorem dX1_stabbedBy_1 : decode cX1_stabbedBy 1 = .ok (.ifnull 22, 3) := dk_198 0 22 (dk_at dksX1_stabbedBy_0 1 rfl rfl)
theorem dX1_stabbedBy_4 : decode cX1_stabbedBy 4 = .ok (.aload_n 0, 1) := dk_42 (dk_at dksX1_stabbedBy_0 4 rfl rfl)
theorem dX1_stabbedBy_5 : decode cX1_stabbedBy 5 = .ok (.getfield 176, 3) := dk_180 0 176 (dk_at dksX1_stabbedBy_0 5 rfl rfl)
theorem dX1_stabbedBy_8 : decode cX1_stabbedBy 8 = .ok (.ifCond .eq 15, 3) := dk_153 0 15 (dk_at dksX1_stabbedBy_0 8 rfl rfl)
theorem dX1_stabbedBy_11 : decode cX1_stabbedBy 11 = .ok (.aload_n 0, 1) := dk_42 (dk_at dksX1_stabbedBy_0 11 rfl rfl)
theorem dX1_stabbedBy_12 : decode cX1_stabbedBy 12 = .ok (.getfield 298, 3) := dk_180 1 42 (dk_at dksX1_stabbedBy_0 12 rfl rfl)
theorem dX1_stabbedBy_15 : decode cX1_stabbedBy 15 = .ok (.iload_n 1, 1) := dk_27 (dk_at dksX1_stabbedBy_0 15 rfl rfl)
theorem dX1_stabbedBy_16 : decode cX1_stabbedBy 16 = .ok (.if_icmp .lt 7, 3) := dk_161 0 7 (dk_at dksX1_stabbedBy_0 16 rfl rfl)
theorem dX1_stabbedBy_19 : decode cX1_stabbedBy 19 = .ok (.iload_n 3, 1) := dk_29 (dk_at dksX1_stabbedBy_0 19 rfl rfl)
theorem dX1_stabbedBy_20 : decode cX1_stabbedBy 20 = .ok (.ifCond .gt 5, 3) := dk_157 0 5 (dk_at dksX1_stabbedBy_0 20 rfl rfl)
theorem dX1_stabbedBy_23 : decode cX1_stabbedBy 23 = .ok (.iconst 0, 1) := dk_3 (dk_at dksX1_stabbedBy_0 23 rfl rfl)
theorem dX1_stabbedBy_24 : decode cX1_stabbedBy 24 = .ok (.ireturn, 1) := dk_172 (dk_at dksX1_stabbedBy_1 0 rfl rfl)
theorem dX1_stabbedBy_25 : decode cX1_stabbedBy 25 = .ok (.aload_n 0, 1) := dk_42 (dk_at dksX1_stabbedBy_1 1 rfl rfl)
theorem dX1_stabbedBy_26 : decode cX1_stabbedBy 26 = .ok (.getfield 129, 3) := dk_180 0 129 (dk_at dksX1_stabbedBy_1 2 rfl rfl)
theorem dX1_stabbedBy_29 : decode cX1_stabbedBy 29 = .ok (.ifCond .ne 16, 3) := dk_154 0 16 (dk_at dksX1_stabbedBy_1 5 rfl rfl)
theorem dX1_stabbedBy_32 : decode cX1_stabbedBy 32 = .ok (.aload_n 0, 1) := dk_42 (dk_at dksX1_stabbedBy_1 8 rfl rfl)
theorem dX1_stabbedBy_33 : decode cX1_stabbedBy 33 = .ok (.iload_n 1, 1) := dk_27 (dk_at dksX1_stabbedBy_1 9 rfl rfl)
theorem dX1_stabbedBy_34 : decode cX1_stabbedBy 34 = .ok (.iload_n 2, 1) := dk_28 (dk_at dksX1_stabbedBy_1 10 rfl rfl)
theorem dX1_stabbedBy_35 : decode cX1_stabbedBy 35 = .ok (.invokevirtual 329, 3) := dk_182 1 73 (dk_at dksX1_stabbedBy_1 11 rfl rfl)
theorem dX1_stabbedBy_38 : decode cX1_stabbedBy 38 = .ok (.ifCond .eq 7, 3) := dk_153 0 7 (dk_at dksX1_stabbedBy_1 14 rfl rfl)
theorem dX1_stabbedBy_41 : decode cX1_stabbedBy 41 = .ok (.iconst 1, 1) := dk_4 (dk_at dksX1_stabbedBy_1 17 rfl rfl)
theorem dX1_stabbedBy_42 : decode cX1_stabbedBy 42 = .ok (.goto 4, 3) := dk_167 0 4 (dk_at dksX1_stabbedBy_1 18 rfl rfl)
theorem dX1_stabbedBy_45 : decode cX1_stabbedBy 45 = .ok (.iconst 0, 1) := dk_3 (dk_at dksX1_stabbedBy_1 21 rfl rfl)
theorem dX1_stabbedBy_46 : decode cX1_stabbedBy 46 = .ok (.istore 4, 2) := dk_54 4 (dk_at dksX1_stabbedBy_1 22 rfl rfl)
theorem dX1_stabbedBy_48 : decode cX1_stabbedBy 48 = .ok (.iload 4, 2) := dk_21 4 (dk_at dksX1_stabbedBy_2 0 rfl rfl)
theorem dX1_stabbedBy_50 : decode cX1_stabbedBy 50 = .ok (.aload_n 0, 1) := dk_42 (dk_at dksX1_stabbedBy_2 2 rfl rfl)
theorem dX1_stabbedBy_51 : decode cX1_stabbedBy 51 = .ok (.getfield 163, 3) := dk_180 0 163 (dk_at dksX1_stabbedBy_2 3 rfl rfl)
theorem dX1_stabbedBy_54 : decode cX1_stabbedBy 54 = .ok (.iload_n 1, 1) := dk_27 (dk_at dksX1_stabbedBy_2 6 rfl rfl)
theorem dX1_stabbedBy_55 : decode cX1_stabbedBy 55 = .ok (.iload_n 2, 1) := dk_28 (dk_at dksX1_stabbedBy_2 7 rfl rfl)
theorem dX1_stabbedBy_56 : decode cX1_stabbedBy 56 = .ok (.iload_n 3, 1) := dk_29 (dk_at dksX1_stabbedBy_2 8 rfl rfl)
theorem dX1_stabbedBy_57 : decode cX1_stabbedBy 57 = .ok (.iload 4, 2) := dk_21 4 (dk_at dksX1_stabbedBy_2 9 rfl rfl)
theorem dX1_stabbedBy_59 : decode cX1_stabbedBy 59 = .ok (.isub, 1) := dk_100 (dk_at dksX1_stabbedBy_2 11 rfl rfl)
theorem dX1_stabbedBy_60 : decode cX1_stabbedBy 60 = .ok (.invokestatic 390, 3) := dk_184 1 134 (dk_at dksX1_stabbedBy_2 12 rfl rfl)
theorem dX1_stabbedBy_63 : decode cX1_stabbedBy 63 = .ok (.iadd, 1) := dk_96 (dk_at dksX1_stabbedBy_2 15 rfl rfl)
theorem dX1_stabbedBy_64 : decode cX1_stabbedBy 64 = .ok (.istore 4, 2) := dk_54 4 (dk_at dksX1_stabbedBy_2 16 rfl rfl)
theorem dX1_stabbedBy_66 : decode cX1_stabbedBy 66 = .ok (.aload_n 0, 1) := dk_42 (dk_at dksX1_stabbedBy_2 18 rfl rfl)
theorem dX1_stabbedBy_67 : decode cX1_stabbedBy 67 = .ok (.getfield 107, 3) := dk_180 0 107 (dk_at dksX1_stabbedBy_2 19 rfl rfl)
theorem dX1_stabbedBy_70 : decode cX1_stabbedBy 70 = .ok (.iload_n 2, 1) := dk_28 (dk_at dksX1_stabbedBy_2 22 rfl rfl)
theorem dX1_stabbedBy_71 : decode cX1_stabbedBy 71 = .ok (.if_icmp .le 8, 3) := dk_164 0 8 (dk_at dksX1_stabbedBy_3 0 rfl rfl)
theorem dX1_stabbedBy_74 : decode cX1_stabbedBy 74 = .ok (.iload 4, 2) := dk_21 4 (dk_at dksX1_stabbedBy_3 3 rfl rfl)
theorem dX1_stabbedBy_76 : decode cX1_stabbedBy 76 = .ok (.goto 19, 3) := dk_167 0 19 (dk_at dksX1_stabbedBy_3 5 rfl rfl)
theorem dX1_stabbedBy_79 : decode cX1_stabbedBy 79 = .ok (.iload 4, 2) := dk_21 4 (dk_at dksX1_stabbedBy_3 8 rfl rfl)
theorem dX1_stabbedBy_81 : decode cX1_stabbedBy 81 = .ok (.aload_n 0, 1) := dk_42 (dk_at dksX1_stabbedBy_3 10 rfl rfl)
theorem dX1_stabbedBy_82 : decode cX1_stabbedBy 82 = .ok (.getfield 170, 3) := dk_180 0 170 (dk_at dksX1_stabbedBy_3 11 rfl rfl)
theorem dX1_stabbedBy_85 : decode cX1_stabbedBy 85 = .ok (.iload_n 1, 1) := dk_27 (dk_at dksX1_stabbedBy_3 14 rfl rfl)
theorem dX1_stabbedBy_86 : decode cX1_stabbedBy 86 = .ok (.iload_n 2, 1) := dk_28 (dk_at dksX1_stabbedBy_3 15 rfl rfl)
theorem dX1_stabbedBy_87 : decode cX1_stabbedBy 87 = .ok (.iload_n 3, 1) := dk_29 (dk_at dksX1_stabbedBy_3 16 rfl rfl)
theorem dX1_stabbedBy_88 : decode cX1_stabbedBy 88 = .ok (.iload 4, 2) := dk_21 4 (dk_at dksX1_stabbedBy_3 17 rfl rfl)
theorem dX1_stabbedBy_90 : decode cX1_stabbedBy 90 = .ok (.isub, 1) := dk_100 (dk_at dksX1_stabbedBy_3 19 rfl rfl)
theorem dX1_stabbedBy_91 : decode cX1_stabbedBy 91 = .ok (.invokestatic 390, 3) := dk_184 1 134 (dk_at dksX1_stabbedBy_3 20 rfl rfl)
theorem dX1_stabbedBy_94 : decode cX1_stabbedBy 94 = .ok (.iadd, 1) := dk_96 (dk_at dksX1_stabbedBy_3 23 rfl rfl)
theorem dX1_stabbedBy_95 : decode cX1_stabbedBy 95 = .ok (.ireturn, 1) := dk_172 (dk_at dksX1_stabbedBy_4 0 rfl rfl)
abbrev cX1_rebuild : ByteArray := prog_1_method_29_code
def yX1_rebuild : MethodName := ⟨RX1, "rebuild", "()I"⟩
theorem dX1_rebuild_0 : decode cX1_rebuild 0 = .ok (.aload_n 0, 1) := by decide +kernel
theorem dX1_rebuild_1 : decode cX1_rebuild 1 = .ok (.invokevirtual 221, 3) := by decide +kernel
theorem dX1_rebuild_4 : decode cX1_rebuild 4 = .ok (.ireturn, 1) := by decide +kernel
abbrev cX1_rebuildTree : ByteArray := prog_1_method_28_code
def yX1_rebuildTree : MethodName := ⟨RX1, "rebuildTree", "()I"⟩
def dkwX1_rebuildTree_4 : List UInt8 := [181, 1, 16, 42, 89, 180, 1, 19, 42, 180, 1, 2, 96, 181, 1, 19, 27, 172]
abbrev dktX1_rebuildTree_4 : List UInt8 := dkwX1_rebuildTree_4 ++ []
def dkwX1_rebuildTree_3 : List UInt8 := [181, 0, 137, 42, 42, 180, 1, 2, 181, 0, 210, 42, 3, 181, 0, 213, 42, 89, 180, 1, 16, 4, 96]
abbrev dktX1_rebuildTree_3 : List UInt8 := dkwX1_rebuildTree_3 ++ dktX1_rebuildTree_4
def dkwX1_rebuildTree_2 : List UInt8 := [42, 180, 1, 2, 3, 28, 182, 1, 8, 181, 0, 173, 42, 180, 0, 173, 198, 0, 11, 42, 180, 0, 173, 1]
abbrev dktX1_rebuildTree_2 : List UInt8 := dkwX1_rebuildTree_2 ++ dktX1_rebuildTree_3
def dkwX1_rebuildTree_1 : List UInt8 := [61, 4, 28, 4, 96, 120, 4, 100, 42, 180, 1, 2, 163, 0, 9, 132, 2, 1, 167, 255, 239, 42, 42, 3]
abbrev dktX1_rebuildTree_1 : List UInt8 := dkwX1_rebuildTree_1 ++ dktX1_rebuildTree_2
def dkwX1_rebuildTree_0 : List UInt8 := [42, 182, 1, 12, 42, 180, 0, 213, 60, 42, 42, 180, 0, 173, 42, 186, 1, 15, 0, 0, 182, 0, 249, 3]
abbrev dktX1_rebuildTree_0 : List UInt8 := dkwX1_rebuildTree_0 ++ dktX1_rebuildTree_1
theorem dksX1_rebuildTree_0 : cX1_rebuildTree.data.toList.drop 0 = dktX1_rebuildTree_0 := by decide +kernel
theorem dksX1_rebuildTree_1 : cX1_rebuildTree.data.toList.drop 24 = dktX1_rebuildTree_1 := dk_seg dksX1_rebuildTree_0 24 rfl rfl
theorem dksX1_rebuildTree_2 : cX1_rebuildTree.data.toList.drop 48 = dktX1_rebuildTree_2 := dk_seg dksX1_rebuildTree_1 24 rfl rfl
theorem dksX1_rebuildTree_3 : cX1_rebuildTree.data.toList.drop 72 = dktX1_rebuildTree_3 := dk_seg dksX1_rebuildTree_2 24 rfl rfl
theorem dksX1_rebuildTree_4 : cX1_rebuildTree.data.toList.drop 95 = dktX1_rebuildTree_4 := dk_seg dksX1_rebuildTree_3 23 rfl rfl
theorem dX1_rebuildTree_0 : decode cX1_rebuildTree 0 = .ok (.aload_n 0, 1) := dk_42 (dk_at dksX1_rebuildTree_0 0 rfl rfl)
theorem dX1_rebuildTree_1 : decode cX1_rebuildTree 1 = .ok (.invokevirtual 268, 3) := dk_182 1 12 (dk_at dksX1_rebuildTree_0 1 rfl rfl)
theorem dX1_rebuildTree_4 : decode cX1_rebuildTree 4 = .ok (.aload_n 0, 1) := dk_42 (dk_at dksX1_rebuildTree_0 4 rfl rfl)
theorem dX1_rebuildTree_5 : decode cX1_rebuildTree 5 = .ok (.getfield 213, 3) := dk_180 0 213 (dk_at dksX1_rebuildTree_0 5 rfl rfl)
theorem dX1_rebuildTree_8 : decode cX1_rebuildTree 8 = .ok (.istore_n 1, 1) := dk_60 (dk_at dksX1_rebuildTree_0 8 rfl rfl)
theorem dX1_rebuildTree_9 : decode cX1_rebuildTree 9 = .ok (.aload_n 0, 1) := dk_42 (dk_at dksX1_rebuildTree_0 9 rfl rfl)
theorem dX1_rebuildTree_10 : decode cX1_rebuildTree 10 = .ok (.aload_n 0, 1) := dk_42 (dk_at dksX1_rebuildTree_0 10 rfl rfl)
theorem dX1_rebuildTree_11 : decode cX1_rebuildTree 11 = .ok (.getfield 173, 3) := dk_180 0 173 (dk_at dksX1_rebuildTree_0 11 rfl rfl)
theorem dX1_rebuildTree_14 : decode cX1_rebuildTree 14 = .ok (.aload_n 0, 1) := dk_42 (dk_at dksX1_rebuildTree_0 14 rfl rfl)
theorem dX1_rebuildTree_15 : decode cX1_rebuildTree 15 = .ok (.invokedynamic 271, 5) := by decide +kernel
theorem dX1_rebuildTree_20 : decode cX1_rebuildTree 20 = .ok (.invokevirtual 249, 3) := dk_182 0 249 (dk_at dksX1_rebuildTree_0 20 rfl rfl)
theorem dX1_rebuildTree_23 : decode cX1_rebuildTree 23 = .ok (.iconst 0, 1) := dk_3 (dk_at dksX1_rebuildTree_0 23 rfl rfl)
theorem dX1_rebuildTree_24 : decode cX1_rebuildTree 24 = .ok (.istore_n 2, 1) := dk_61 (dk_at dksX1_rebuildTree_1 0 rfl rfl)
theorem dX1_rebuildTree_25 : decode cX1_rebuildTree 25 = .ok (.iconst 1, 1) := dk_4 (dk_at dksX1_rebuildTree_1 1 rfl rfl)
theorem dX1_rebuildTree_26 : decode cX1_rebuildTree 26 = .ok (.iload_n 2, 1) := dk_28 (dk_at dksX1_rebuildTree_1 2 rfl rfl)
theorem dX1_rebuildTree_27 : decode cX1_rebuildTree 27 = .ok (.iconst 1, 1) := dk_4 (dk_at dksX1_rebuildTree_1 3 rfl rfl)
theorem dX1_rebuildTree_28 : decode cX1_rebuildTree 28 = .ok (.iadd, 1) := dk_96 (dk_at dksX1_rebuildTree_1 4 rfl rfl)
theorem dX1_rebuildTree_29 : decode cX1_rebuildTree 29 = .ok (.ishl, 1) := dk_120 (dk_at dksX1_rebuildTree_1 5 rfl rfl)
theorem dX1_rebuildTree_30 : decode cX1_rebuildTree 30 = .ok (.iconst 1, 1) := dk_4 (dk_at dksX1_rebuildTree_1 6 rfl rfl)
theorem dX1_rebuildTree_31 : decode cX1_rebuildTree 31 = .ok (.isub, 1) := dk_100 (dk_at dksX1_rebuildTree_1 7 rfl rfl)
theorem dX1_rebuildTree_32 : decode cX1_rebuildTree 32 = .ok (.aload_n 0, 1) := dk_42 (dk_at dksX1_rebuildTree_1 8 rfl rfl)
theorem dX1_rebuildTree_33 : decode cX1_rebuildTree 33 = .ok (.getfield 258, 3) := dk_180 1 2 (dk_at dksX1_rebuildTree_1 9 rfl rfl)
theorem dX1_rebuildTree_36 : decode cX1_rebuildTree 36 = .ok (.if_icmp .gt 9, 3) := dk_163 0 9 (dk_at dksX1_rebuildTree_1 12 rfl rfl)
theorem dX1_rebuildTree_39 : decode cX1_rebuildTree 39 = .ok (.iinc 2 1, 3) := dk_132 2 1 (dk_at dksX1_rebuildTree_1 15 rfl rfl)
theorem dX1_rebuildTree_42 : decode cX1_rebuildTree 42 = .ok (.goto (-17), 3) := dk_167 255 239 (dk_at dksX1_rebuildTree_1 18 rfl rfl)
theorem dX1_rebuildTree_45 : decode cX1_rebuildTree 45 = .ok (.aload_n 0, 1) := dk_42 (dk_at dksX1_rebuildTree_1 21 rfl rfl)
theorem dX1_rebuildTree_46 : decode cX1_rebuildTree 46 = .ok (.aload_n 0, 1) := dk_42 (dk_at dksX1_rebuildTree_1 22 rfl rfl)
theorem dX1_rebuildTree_47 : decode cX1_rebuildTree 47 = .ok (.iconst 0, 1) := dk_3 (dk_at dksX1_rebuildTree_1 23 rfl rfl)
theorem dX1_rebuildTree_48 : decode cX1_rebuildTree 48 = .ok (.aload_n 0, 1) := dk_42 (dk_at dksX1_rebuildTree_2 0 rfl rfl)
theorem dX1_rebuildTree_49 : decode cX1_rebuildTree 49 = .ok (.getfield 258, 3) := dk_180 1 2 (dk_at dksX1_rebuildTree_2 1 rfl rfl)
theorem dX1_rebuildTree_52 : decode cX1_rebuildTree 52 = .ok (.iconst 0, 1) := dk_3 (dk_at dksX1_rebuildTree_2 4 rfl rfl)
theorem dX1_rebuildTree_53 : decode cX1_rebuildTree 53 = .ok (.iload_n 2, 1) := dk_28 (dk_at dksX1_rebuildTree_2 5 rfl rfl)
theorem dX1_rebuildTree_54 : decode cX1_rebuildTree 54 = .ok (.invokevirtual 264, 3) := dk_182 1 8 (dk_at dksX1_rebuildTree_2 6 rfl rfl)
theorem dX1_rebuildTree_57 : decode cX1_rebuildTree 57 = .ok (.putfield 173, 3) := dk_181 0 173 (dk_at dksX1_rebuildTree_2 9 rfl rfl)
theorem dX1_rebuildTree_60 : decode cX1_rebuildTree 60 = .ok (.aload_n 0, 1) := dk_42 (dk_at dksX1_rebuildTree_2 12 rfl rfl)
theorem dX1_rebuildTree_61 : decode cX1_rebuildTree 61 = .ok (.getfield 173, 3) := dk_180 0 173 (dk_at dksX1_rebuildTree_2 13 rfl rfl)
theorem dX1_rebuildTree_64 : decode cX1_rebuildTree 64 = .ok (.ifnull 11, 3) := dk_198 0 11 (dk_at dksX1_rebuildTree_2 16 rfl rfl)
theorem dX1_rebuildTree_67 : decode cX1_rebuildTree 67 = .ok (.aload_n 0, 1) := dk_42 (dk_at dksX1_rebuildTree_2 19 rfl rfl)
theorem dX1_rebuildTree_68 : decode cX1_rebuildTree 68 = .ok (.getfield 173, 3) := dk_180 0 173 (dk_at dksX1_rebuildTree_2 20 rfl rfl)
theorem dX1_rebuildTree_71 : decode cX1_rebuildTree 71 = .ok (.aconst_null, 1) := dk_1 (dk_at dksX1_rebuildTree_2 23 rfl rfl)
theorem dX1_rebuildTree_72 : decode cX1_rebuildTree 72 = .ok (.putfield 137, 3) := dk_181 0 137 (dk_at dksX1_rebuildTree_3 0 rfl rfl)
theorem dX1_rebuildTree_75 : decode cX1_rebuildTree 75 = .ok (.aload_n 0, 1) := dk_42 (dk_at dksX1_rebuildTree_3 3 rfl rfl)
theorem dX1_rebuildTree_76 : decode cX1_rebuildTree 76 = .ok (.aload_n 0, 1) := dk_42 (dk_at dksX1_rebuildTree_3 4 rfl rfl)
theorem dX1_rebuildTree_77 : decode cX1_rebuildTree 77 = .ok (.getfield 258, 3) := dk_180 1 2 (dk_at dksX1_rebuildTree_3 5 rfl rfl)
theorem dX1_rebuildTree_80 : decode cX1_rebuildTree 80 = .ok (.putfield 210, 3) := dk_181 0 210 (dk_at dksX1_rebuildTree_3 8 rfl rfl)
theorem dX1_rebuildTree_83 : decode cX1_rebuildTree 83 = .ok (.aload_n 0, 1) := dk_42 (dk_at dksX1_rebuildTree_3 11 rfl rfl)
theorem dX1_rebuildTree_84 : decode cX1_rebuildTree 84 = .ok (.iconst 0, 1) := dk_3 (dk_at dksX1_rebuildTree_3 12 rfl rfl)
theorem dX1_rebuildTree_85 : decode cX1_rebuildTree 85 = .ok (.putfield 213, 3) := dk_181 0 213 (dk_at dksX1_rebuildTree_3 13 rfl rfl)
theorem dX1_rebuildTree_88 : decode cX1_rebuildTree 88 = .ok (.aload_n 0, 1) := dk_42 (dk_at dksX1_rebuildTree_3 16 rfl rfl)
theorem dX1_rebuildTree_89 : decode cX1_rebuildTree 89 = .ok (.dup, 1) := dk_89 (dk_at dksX1_rebuildTree_3 17 rfl rfl)
theorem dX1_rebuildTree_90 : decode cX1_rebuildTree 90 = .ok (.getfield 272, 3) := dk_180 1 16 (dk_at dksX1_rebuildTree_3 18 rfl rfl)
theorem dX1_rebuildTree_93 : decode cX1_rebuildTree 93 = .ok (.iconst 1, 1) := dk_4 (dk_at dksX1_rebuildTree_3 21 rfl rfl)
theorem dX1_rebuildTree_94 : decode cX1_rebuildTree 94 = .ok (.iadd, 1) := dk_96 (dk_at dksX1_rebuildTree_3 22 rfl rfl)
theorem dX1_rebuildTree_95 : decode cX1_rebuildTree 95 = .ok (.putfield 272, 3) := dk_181 1 16 (dk_at dksX1_rebuildTree_4 0 rfl rfl)
theorem dX1_rebuildTree_98 : decode cX1_rebuildTree 98 = .ok (.aload_n 0, 1) := dk_42 (dk_at dksX1_rebuildTree_4 3 rfl rfl)
theorem dX1_rebuildTree_99 : decode cX1_rebuildTree 99 = .ok (.dup, 1) := dk_89 (dk_at dksX1_rebuildTree_4 4 rfl rfl)
theorem dX1_rebuildTree_100 : decode cX1_rebuildTree 100 = .ok (.getfield 275, 3) := dk_180 1 19 (dk_at dksX1_rebuildTree_4 5 rfl rfl)
theorem dX1_rebuildTree_103 : decode cX1_rebuildTree 103 = .ok (.aload_n 0, 1) := dk_42 (dk_at dksX1_rebuildTree_4 8 rfl rfl)
theorem dX1_rebuildTree_104 : decode cX1_rebuildTree 104 = .ok (.getfield 258, 3) := dk_180 1 2 (dk_at dksX1_rebuildTree_4 9 rfl rfl)
theorem dX1_rebuildTree_107 : decode cX1_rebuildTree 107 = .ok (.iadd, 1) := dk_96 (dk_at dksX1_rebuildTree_4 12 rfl rfl)
theorem dX1_rebuildTree_108 : decode cX1_rebuildTree 108 = .ok (.putfield 275, 3) := dk_181 1 19 (dk_at dksX1_rebuildTree_4 13 rfl rfl)
theorem dX1_rebuildTree_111 : decode cX1_rebuildTree 111 = .ok (.iload_n 1, 1) := dk_27 (dk_at dksX1_rebuildTree_4 16 rfl rfl)
theorem dX1_rebuildTree_112 : decode cX1_rebuildTree 112 = .ok (.ireturn, 1) := dk_172 (dk_at dksX1_rebuildTree_4 17 rfl rfl)
abbrev cX1_collectLive : ByteArray := prog_1_method_26_code
def yX1_collectLive : MethodName := ⟨RX1, "collectLive", "()V"⟩
def dkwX1_collectLive_0 : List UInt8 := [42, 3, 181, 1, 2, 42, 42, 180, 0, 173, 42, 186, 1, 5, 0, 0, 182, 0, 249, 177]
abbrev dktX1_collectLive_0 : List UInt8 := dkwX1_collectLive_0 ++ []
theorem dksX1_collectLive_0 : cX1_collectLive.data.toList.drop 0 = dktX1_collectLive_0 := by decide +kernel
theorem dX1_collectLive_0 : decode cX1_collectLive 0 = .ok (.aload_n 0, 1) := dk_42 (dk_at dksX1_collectLive_0 0 rfl rfl)
theorem dX1_collectLive_1 : decode cX1_collectLive 1 = .ok (.iconst 0, 1) := dk_3 (dk_at dksX1_collectLive_0 1 rfl rfl)
theorem dX1_collectLive_2 : decode cX1_collectLive 2 = .ok (.putfield 258, 3) := dk_181 1 2 (dk_at dksX1_collectLive_0 2 rfl rfl)
theorem dX1_collectLive_5 : decode cX1_collectLive 5 = .ok (.aload_n 0, 1) := dk_42 (dk_at dksX1_collectLive_0 5 rfl rfl)
theorem dX1_collectLive_6 : decode cX1_collectLive 6 = .ok (.aload_n 0, 1) := dk_42 (dk_at dksX1_collectLive_0 6 rfl rfl)
theorem dX1_collectLive_7 : decode cX1_collectLive 7 = .ok (.getfield 173, 3) := dk_180 0 173 (dk_at dksX1_collectLive_0 7 rfl rfl)
theorem dX1_collectLive_10 : decode cX1_collectLive 10 = .ok (.aload_n 0, 1) := dk_42 (dk_at dksX1_collectLive_0 10 rfl rfl)
theorem dX1_collectLive_11 : decode cX1_collectLive 11 = .ok (.invokedynamic 261, 5) := by decide +kernel
theorem dX1_collectLive_16 : decode cX1_collectLive 16 = .ok (.invokevirtual 249, 3) := dk_182 0 249 (dk_at dksX1_collectLive_0 16 rfl rfl)
theorem dX1_collectLive_19 : decode cX1_collectLive 19 = .ok (.return_, 1) := dk_177 (dk_at dksX1_collectLive_0 19 rfl rfl)
abbrev cX1_lambda_collectLive_4 : ByteArray := prog_1_method_110_code
def yX1_lambda_collectLive_4 : MethodName := ⟨RX1, "lambda$collectLive$4", "(LIntervalTree$Node;)V"⟩
def dkwX1_lambda_collectLive_4_0 : List UInt8 := [43, 180, 0, 129, 154, 0, 8, 42, 43, 182, 1, 247, 177]
abbrev dktX1_lambda_collectLive_4_0 : List UInt8 := dkwX1_lambda_collectLive_4_0 ++ []
theorem dksX1_lambda_collectLive_4_0 : cX1_lambda_collectLive_4.data.toList.drop 0 = dktX1_lambda_collectLive_4_0 := by decide +kernel
theorem dX1_lambda_collectLive_4_0 : decode cX1_lambda_collectLive_4 0 = .ok (.aload_n 1, 1) := dk_43 (dk_at dksX1_lambda_collectLive_4_0 0 rfl rfl)
theorem dX1_lambda_collectLive_4_1 : decode cX1_lambda_collectLive_4 1 = .ok (.getfield 129, 3) := dk_180 0 129 (dk_at dksX1_lambda_collectLive_4_0 1 rfl rfl)
theorem dX1_lambda_collectLive_4_4 : decode cX1_lambda_collectLive_4 4 = .ok (.ifCond .ne 8, 3) := dk_154 0 8 (dk_at dksX1_lambda_collectLive_4_0 4 rfl rfl)
theorem dX1_lambda_collectLive_4_7 : decode cX1_lambda_collectLive_4 7 = .ok (.aload_n 0, 1) := dk_42 (dk_at dksX1_lambda_collectLive_4_0 7 rfl rfl)
theorem dX1_lambda_collectLive_4_8 : decode cX1_lambda_collectLive_4 8 = .ok (.aload_n 1, 1) := dk_43 (dk_at dksX1_lambda_collectLive_4_0 8 rfl rfl)
theorem dX1_lambda_collectLive_4_9 : decode cX1_lambda_collectLive_4 9 = .ok (.invokevirtual 503, 3) := dk_182 1 247 (dk_at dksX1_lambda_collectLive_4_0 9 rfl rfl)
theorem dX1_lambda_collectLive_4_12 : decode cX1_lambda_collectLive_4 12 = .ok (.return_, 1) := dk_177 (dk_at dksX1_lambda_collectLive_4_0 12 rfl rfl)
abbrev cX1_append : ByteArray := prog_1_method_25_code
def yX1_append : MethodName := ⟨RX1, "append", "(LIntervalTree$Node;)V"⟩
def dkwX1_append_0 : List UInt8 := [42, 180, 0, 58, 42, 180, 1, 2, 43, 83, 42, 89, 180, 1, 2, 4, 96, 181, 1, 2, 177]
abbrev dktX1_append_0 : List UInt8 := dkwX1_append_0 ++ []
theorem dksX1_append_0 : cX1_append.data.toList.drop 0 = dktX1_append_0 := by decide +kernel
theorem dX1_append_0 : decode cX1_append 0 = .ok (.aload_n 0, 1) := dk_42 (dk_at dksX1_append_0 0 rfl rfl)
theorem dX1_append_1 : decode cX1_append 1 = .ok (.getfield 58, 3) := dk_180 0 58 (dk_at dksX1_append_0 1 rfl rfl)
theorem dX1_append_4 : decode cX1_append 4 = .ok (.aload_n 0, 1) := dk_42 (dk_at dksX1_append_0 4 rfl rfl)
theorem dX1_append_5 : decode cX1_append 5 = .ok (.getfield 258, 3) := dk_180 1 2 (dk_at dksX1_append_0 5 rfl rfl)
theorem dX1_append_8 : decode cX1_append 8 = .ok (.aload_n 1, 1) := dk_43 (dk_at dksX1_append_0 8 rfl rfl)
theorem dX1_append_9 : decode cX1_append 9 = .ok (.aastore, 1) := dk_83 (dk_at dksX1_append_0 9 rfl rfl)
theorem dX1_append_10 : decode cX1_append 10 = .ok (.aload_n 0, 1) := dk_42 (dk_at dksX1_append_0 10 rfl rfl)
theorem dX1_append_11 : decode cX1_append 11 = .ok (.dup, 1) := dk_89 (dk_at dksX1_append_0 11 rfl rfl)
theorem dX1_append_12 : decode cX1_append 12 = .ok (.getfield 258, 3) := dk_180 1 2 (dk_at dksX1_append_0 12 rfl rfl)
theorem dX1_append_15 : decode cX1_append 15 = .ok (.iconst 1, 1) := dk_4 (dk_at dksX1_append_0 15 rfl rfl)
theorem dX1_append_16 : decode cX1_append 16 = .ok (.iadd, 1) := dk_96 (dk_at dksX1_append_0 16 rfl rfl)
theorem dX1_append_17 : decode cX1_append 17 = .ok (.putfield 258, 3) := dk_181 1 2 (dk_at dksX1_append_0 17 rfl rfl)
theorem dX1_append_20 : decode cX1_append 20 = .ok (.return_, 1) := dk_177 (dk_at dksX1_append_0 20 rfl rfl)
abbrev cX1_visitAll : ByteArray := prog_1_method_24_code
def yX1_visitAll : MethodName := ⟨RX1, "visitAll", "(LIntervalTree$Node;LIntervalTree$Visitor;)V"⟩
def dkwX1_visitAll_1 : List UInt8 := [185, 0, 253, 2, 0, 42, 43, 180, 0, 170, 44, 182, 0, 249, 177]
abbrev dktX1_visitAll_1 : List UInt8 := dkwX1_visitAll_1 ++ []
def dkwX1_visitAll_0 : List UInt8 := [43, 199, 0, 4, 177, 43, 182, 0, 148, 42, 43, 180, 0, 163, 44, 182, 0, 249, 44, 43]
abbrev dktX1_visitAll_0 : List UInt8 := dkwX1_visitAll_0 ++ dktX1_visitAll_1
theorem dksX1_visitAll_0 : cX1_visitAll.data.toList.drop 0 = dktX1_visitAll_0 := by decide +kernel
theorem dksX1_visitAll_1 : cX1_visitAll.data.toList.drop 20 = dktX1_visitAll_1 := dk_seg dksX1_visitAll_0 20 rfl rfl
theorem dX1_visitAll_0 : decode cX1_visitAll 0 = .ok (.aload_n 1, 1) := dk_43 (dk_at dksX1_visitAll_0 0 rfl rfl)
theorem dX1_visitAll_1 : decode cX1_visitAll 1 = .ok (.ifnonnull 4, 3) := dk_199 0 4 (dk_at dksX1_visitAll_0 1 rfl rfl)
theorem dX1_visitAll_4 : decode cX1_visitAll 4 = .ok (.return_, 1) := dk_177 (dk_at dksX1_visitAll_0 4 rfl rfl)
theorem dX1_visitAll_5 : decode cX1_visitAll 5 = .ok (.aload_n 1, 1) := dk_43 (dk_at dksX1_visitAll_0 5 rfl rfl)
theorem dX1_visitAll_6 : decode cX1_visitAll 6 = .ok (.invokevirtual 148, 3) := dk_182 0 148 (dk_at dksX1_visitAll_0 6 rfl rfl)
theorem dX1_visitAll_9 : decode cX1_visitAll 9 = .ok (.aload_n 0, 1) := dk_42 (dk_at dksX1_visitAll_0 9 rfl rfl)
theorem dX1_visitAll_10 : decode cX1_visitAll 10 = .ok (.aload_n 1, 1) := dk_43 (dk_at dksX1_visitAll_0 10 rfl rfl)
theorem dX1_visitAll_11 : decode cX1_visitAll 11 = .ok (.getfield 163, 3) := dk_180 0 163 (dk_at dksX1_visitAll_0 11 rfl rfl)
theorem dX1_visitAll_14 : decode cX1_visitAll 14 = .ok (.aload_n 2, 1) := dk_44 (dk_at dksX1_visitAll_0 14 rfl rfl)
theorem dX1_visitAll_15 : decode cX1_visitAll 15 = .ok (.invokevirtual 249, 3) := dk_182 0 249 (dk_at dksX1_visitAll_0 15 rfl rfl)
theorem dX1_visitAll_18 : decode cX1_visitAll 18 = .ok (.aload_n 2, 1) := dk_44 (dk_at dksX1_visitAll_0 18 rfl rfl)
theorem dX1_visitAll_19 : decode cX1_visitAll 19 = .ok (.aload_n 1, 1) := dk_43 (dk_at dksX1_visitAll_0 19 rfl rfl)
theorem dX1_visitAll_20 : decode cX1_visitAll 20 = .ok (.invokeinterface 253 2, 5) := by decide +kernel
theorem dX1_visitAll_25 : decode cX1_visitAll 25 = .ok (.aload_n 0, 1) := dk_42 (dk_at dksX1_visitAll_1 5 rfl rfl)
theorem dX1_visitAll_26 : decode cX1_visitAll 26 = .ok (.aload_n 1, 1) := dk_43 (dk_at dksX1_visitAll_1 6 rfl rfl)
theorem dX1_visitAll_27 : decode cX1_visitAll 27 = .ok (.getfield 170, 3) := dk_180 0 170 (dk_at dksX1_visitAll_1 7 rfl rfl)
theorem dX1_visitAll_30 : decode cX1_visitAll 30 = .ok (.aload_n 2, 1) := dk_44 (dk_at dksX1_visitAll_1 10 rfl rfl)
theorem dX1_visitAll_31 : decode cX1_visitAll 31 = .ok (.invokevirtual 249, 3) := dk_182 0 249 (dk_at dksX1_visitAll_1 11 rfl rfl)
theorem dX1_visitAll_34 : decode cX1_visitAll 34 = .ok (.return_, 1) := dk_177 (dk_at dksX1_visitAll_1 14 rfl rfl)
abbrev cX1_lambda_rebuildTree_5 : ByteArray := prog_1_method_109_code
def yX1_lambda_rebuildTree_5 : MethodName := ⟨RX1, "lambda$rebuildTree$5", "(LIntervalTree$Node;)V"⟩
def dkwX1_lambda_rebuildTree_5_0 : List UInt8 := [43, 180, 0, 129, 153, 0, 13, 42, 180, 0, 14, 43, 180, 0, 231, 1, 83, 177]
abbrev dktX1_lambda_rebuildTree_5_0 : List UInt8 := dkwX1_lambda_rebuildTree_5_0 ++ []
theorem dksX1_lambda_rebuildTree_5_0 : cX1_lambda_rebuildTree_5.data.toList.drop 0 = dktX1_lambda_rebuildTree_5_0 := by decide +kernel
theorem dX1_lambda_rebuildTree_5_0 : decode cX1_lambda_rebuildTree_5 0 = .ok (.aload_n 1, 1) := dk_43 (dk_at dksX1_lambda_rebuildTree_5_0 0 rfl rfl)
theorem dX1_lambda_rebuildTree_5_1 : decode cX1_lambda_rebuildTree_5 1 = .ok (.getfield 129, 3) := dk_180 0 129 (dk_at dksX1_lambda_rebuildTree_5_0 1 rfl rfl)
theorem dX1_lambda_rebuildTree_5_4 : decode cX1_lambda_rebuildTree_5 4 = .ok (.ifCond .eq 13, 3) := dk_153 0 13 (dk_at dksX1_lambda_rebuildTree_5_0 4 rfl rfl)
theorem dX1_lambda_rebuildTree_5_7 : decode cX1_lambda_rebuildTree_5 7 = .ok (.aload_n 0, 1) := dk_42 (dk_at dksX1_lambda_rebuildTree_5_0 7 rfl rfl)
theorem dX1_lambda_rebuildTree_5_8 : decode cX1_lambda_rebuildTree_5 8 = .ok (.getfield 14, 3) := dk_180 0 14 (dk_at dksX1_lambda_rebuildTree_5_0 8 rfl rfl)
theorem dX1_lambda_rebuildTree_5_11 : decode cX1_lambda_rebuildTree_5 11 = .ok (.aload_n 1, 1) := dk_43 (dk_at dksX1_lambda_rebuildTree_5_0 11 rfl rfl)
theorem dX1_lambda_rebuildTree_5_12 : decode cX1_lambda_rebuildTree_5 12 = .ok (.getfield 231, 3) := dk_180 0 231 (dk_at dksX1_lambda_rebuildTree_5_0 12 rfl rfl)
theorem dX1_lambda_rebuildTree_5_15 : decode cX1_lambda_rebuildTree_5 15 = .ok (.aconst_null, 1) := dk_1 (dk_at dksX1_lambda_rebuildTree_5_0 15 rfl rfl)
theorem dX1_lambda_rebuildTree_5_16 : decode cX1_lambda_rebuildTree_5 16 = .ok (.aastore, 1) := dk_83 (dk_at dksX1_lambda_rebuildTree_5_0 16 rfl rfl)
theorem dX1_lambda_rebuildTree_5_17 : decode cX1_lambda_rebuildTree_5 17 = .ok (.return_, 1) := dk_177 (dk_at dksX1_lambda_rebuildTree_5_0 17 rfl rfl)
abbrev cX1_build : ByteArray := prog_1_method_27_code
def yX1_build : MethodName := ⟨RX1, "build", "(IIII)LIntervalTree$Node;"⟩
def dkwX1_build_5 : List UInt8 := [25, 6, 176]
abbrev dktX1_build_5 : List UInt8 := dkwX1_build_5 ++ []
def dkwX1_build_4 : List UInt8 := [25, 6, 180, 0, 170, 198, 0, 13, 25, 6, 180, 0, 170, 25, 6, 181, 0, 137, 25, 6, 182, 0, 151]
abbrev dktX1_build_4 : List UInt8 := dkwX1_build_4 ++ dktX1_build_5
def dkwX1_build_3 : List UInt8 := [182, 1, 8, 181, 0, 170, 25, 6, 180, 0, 163, 198, 0, 13, 25, 6, 180, 0, 163, 25, 6, 181, 0, 137]
abbrev dktX1_build_3 : List UInt8 := dkwX1_build_3 ++ dktX1_build_4
def dkwX1_build_2 : List UInt8 := [96, 21, 4, 182, 1, 8, 181, 0, 163, 25, 6, 42, 21, 5, 4, 96, 28, 29, 4, 96, 21, 4]
abbrev dktX1_build_2 : List UInt8 := dkwX1_build_2 ++ dktX1_build_3
def dkwX1_build_1 : List UInt8 := [25, 6, 29, 21, 4, 160, 0, 7, 4, 167, 0, 4, 3, 181, 0, 191, 25, 6, 42, 27, 21, 5, 29, 4]
abbrev dktX1_build_1 : List UInt8 := dkwX1_build_1 ++ dktX1_build_2
def dkwX1_build_0 : List UInt8 := [27, 28, 160, 0, 5, 1, 176, 27, 28, 96, 5, 108, 54, 5, 42, 180, 0, 58, 21, 5, 50, 58, 6]
abbrev dktX1_build_0 : List UInt8 := dkwX1_build_0 ++ dktX1_build_1
theorem dksX1_build_0 : cX1_build.data.toList.drop 0 = dktX1_build_0 := by decide +kernel
theorem dksX1_build_1 : cX1_build.data.toList.drop 23 = dktX1_build_1 := dk_seg dksX1_build_0 23 rfl rfl
theorem dksX1_build_2 : cX1_build.data.toList.drop 47 = dktX1_build_2 := dk_seg dksX1_build_1 24 rfl rfl
theorem dksX1_build_3 : cX1_build.data.toList.drop 69 = dktX1_build_3 := dk_seg dksX1_build_2 22 rfl rfl
theorem dksX1_build_4 : cX1_build.data.toList.drop 93 = dktX1_build_4 := dk_seg dksX1_build_3 24 rfl rfl
theorem dksX1_build_5 : cX1_build.data.toList.drop 116 = dktX1_build_5 := dk_seg dksX1_build_4 23 rfl rfl
theorem dX1_build_0 : decode cX1_build 0 = .ok (.iload_n 1, 1) := dk_27 (dk_at dksX1_build_0 0 rfl rfl)
theorem dX1_build_1 : decode cX1_build 1 = .ok (.iload_n 2, 1) := dk_28 (dk_at dksX1_build_0 1 rfl rfl)
theorem dX1_build_2 : decode cX1_build 2 = .ok (.if_icmp .ne 5, 3) := dk_160 0 5 (dk_at dksX1_build_0 2 rfl rfl)
theorem dX1_build_5 : decode cX1_build 5 = .ok (.aconst_null, 1) := dk_1 (dk_at dksX1_build_0 5 rfl rfl)
theorem dX1_build_6 : decode cX1_build 6 = .ok (.areturn, 1) := dk_176 (dk_at dksX1_build_0 6 rfl rfl)
theorem dX1_build_7 : decode cX1_build 7 = .ok (.iload_n 1, 1) := dk_27 (dk_at dksX1_build_0 7 rfl rfl)
theorem dX1_build_8 : decode cX1_build 8 = .ok (.iload_n 2, 1) := dk_28 (dk_at dksX1_build_0 8 rfl rfl)
theorem dX1_build_9 : decode cX1_build 9 = .ok (.iadd, 1) := dk_96 (dk_at dksX1_build_0 9 rfl rfl)
theorem dX1_build_10 : decode cX1_build 10 = .ok (.iconst 2, 1) := dk_5 (dk_at dksX1_build_0 10 rfl rfl)
theorem dX1_build_11 : decode cX1_build 11 = .ok (.idiv, 1) := dk_108 (dk_at dksX1_build_0 11 rfl rfl)
theorem dX1_build_12 : decode cX1_build 12 = .ok (.istore 5, 2) := dk_54 5 (dk_at dksX1_build_0 12 rfl rfl)
theorem dX1_build_14 : decode cX1_build 14 = .ok (.aload_n 0, 1) := dk_42 (dk_at dksX1_build_0 14 rfl rfl)
theorem dX1_build_15 : decode cX1_build 15 = .ok (.getfield 58, 3) := dk_180 0 58 (dk_at dksX1_build_0 15 rfl rfl)
theorem dX1_build_18 : decode cX1_build 18 = .ok (.iload 5, 2) := dk_21 5 (dk_at dksX1_build_0 18 rfl rfl)
theorem dX1_build_20 : decode cX1_build 20 = .ok (.aaload, 1) := dk_50 (dk_at dksX1_build_0 20 rfl rfl)
theorem dX1_build_21 : decode cX1_build 21 = .ok (.astore 6, 2) := dk_58 6 (dk_at dksX1_build_0 21 rfl rfl)
theorem dX1_build_23 : decode cX1_build 23 = .ok (.aload 6, 2) := dk_25 6 (dk_at dksX1_build_1 0 rfl rfl)
theorem dX1_build_25 : decode cX1_build 25 = .ok (.iload_n 3, 1) := dk_29 (dk_at dksX1_build_1 2 rfl rfl)
theorem dX1_build_26 : decode cX1_build 26 = .ok (.iload 4, 2) := dk_21 4 (dk_at dksX1_build_1 3 rfl rfl)
theorem dX1_build_28 : decode cX1_build 28 = .ok (.if_icmp .ne 7, 3) := dk_160 0 7 (dk_at dksX1_build_1 5 rfl rfl)
theorem dX1_build_31 : decode cX1_build 31 = .ok (.iconst 1, 1) := dk_4 (dk_at dksX1_build_1 8 rfl rfl)
theorem dX1_build_32 : decode cX1_build 32 = .ok (.goto 4, 3) := dk_167 0 4 (dk_at dksX1_build_1 9 rfl rfl)
theorem dX1_build_35 : decode cX1_build 35 = .ok (.iconst 0, 1) := dk_3 (dk_at dksX1_build_1 12 rfl rfl)
theorem dX1_build_36 : decode cX1_build 36 = .ok (.putfield 191, 3) := dk_181 0 191 (dk_at dksX1_build_1 13 rfl rfl)
theorem dX1_build_39 : decode cX1_build 39 = .ok (.aload 6, 2) := dk_25 6 (dk_at dksX1_build_1 16 rfl rfl)
theorem dX1_build_41 : decode cX1_build 41 = .ok (.aload_n 0, 1) := dk_42 (dk_at dksX1_build_1 18 rfl rfl)
theorem dX1_build_42 : decode cX1_build 42 = .ok (.iload_n 1, 1) := dk_27 (dk_at dksX1_build_1 19 rfl rfl)
theorem dX1_build_43 : decode cX1_build 43 = .ok (.iload 5, 2) := dk_21 5 (dk_at dksX1_build_1 20 rfl rfl)
theorem dX1_build_45 : decode cX1_build 45 = .ok (.iload_n 3, 1) := dk_29 (dk_at dksX1_build_1 22 rfl rfl)
theorem dX1_build_46 : decode cX1_build 46 = .ok (.iconst 1, 1) := dk_4 (dk_at dksX1_build_1 23 rfl rfl)
theorem dX1_build_47 : decode cX1_build 47 = .ok (.iadd, 1) := dk_96 (dk_at dksX1_build_2 0 rfl rfl)
theorem dX1_build_48 : decode cX1_build 48 = .ok (.iload 4, 2) := dk_21 4 (dk_at dksX1_build_2 1 rfl rfl)
theorem dX1_build_50 : decode cX1_build 50 = .ok (.invokevirtual 264, 3) := dk_182 1 8 (dk_at dksX1_build_2 3 rfl rfl)
theorem dX1_build_53 : decode cX1_build 53 = .ok (.putfield 163, 3) := dk_181 0 163 (dk_at dksX1_build_2 6 rfl rfl)
theorem dX1_build_56 : decode cX1_build 56 = .ok (.aload 6, 2) := dk_25 6 (dk_at dksX1_build_2 9 rfl rfl)
theorem dX1_build_58 : decode cX1_build 58 = .ok (.aload_n 0, 1) := dk_42 (dk_at dksX1_build_2 11 rfl rfl)
theorem dX1_build_59 : decode cX1_build 59 = .ok (.iload 5, 2) := dk_21 5 (dk_at dksX1_build_2 12 rfl rfl)
theorem dX1_build_61 : decode cX1_build 61 = .ok (.iconst 1, 1) := dk_4 (dk_at dksX1_build_2 14 rfl rfl)
theorem dX1_build_62 : decode cX1_build 62 = .ok (.iadd, 1) := dk_96 (dk_at dksX1_build_2 15 rfl rfl)
theorem dX1_build_63 : decode cX1_build 63 = .ok (.iload_n 2, 1) := dk_28 (dk_at dksX1_build_2 16 rfl rfl)
theorem dX1_build_64 : decode cX1_build 64 = .ok (.iload_n 3, 1) := dk_29 (dk_at dksX1_build_2 17 rfl rfl)
theorem dX1_build_65 : decode cX1_build 65 = .ok (.iconst 1, 1) := dk_4 (dk_at dksX1_build_2 18 rfl rfl)
theorem dX1_build_66 : decode cX1_build 66 = .ok (.iadd, 1) := dk_96 (dk_at dksX1_build_2 19 rfl rfl)
theorem dX1_build_67 : decode cX1_build 67 = .ok (.iload 4, 2) := dk_21 4 (dk_at dksX1_build_2 20 rfl rfl)
theorem dX1_build_69 : decode cX1_build 69 = .ok (.invokevirtual 264, 3) := dk_182 1 8 (dk_at dksX1_build_3 0 rfl rfl)
theorem dX1_build_72 : decode cX1_build 72 = .ok (.putfield 170, 3) := dk_181 0 170 (dk_at dksX1_build_3 3 rfl rfl)
theorem dX1_build_75 : decode cX1_build 75 = .ok (.aload 6, 2) := dk_25 6 (dk_at dksX1_build_3 6 rfl rfl)
theorem dX1_build_77 : decode cX1_build 77 = .ok (.getfield 163, 3) := dk_180 0 163 (dk_at dksX1_build_3 8 rfl rfl)
theorem dX1_build_80 : decode cX1_build 80 = .ok (.ifnull 13, 3) := dk_198 0 13 (dk_at dksX1_build_3 11 rfl rfl)
theorem dX1_build_83 : decode cX1_build 83 = .ok (.aload 6, 2) := dk_25 6 (dk_at dksX1_build_3 14 rfl rfl)
theorem dX1_build_85 : decode cX1_build 85 = .ok (.getfield 163, 3) := dk_180 0 163 (dk_at dksX1_build_3 16 rfl rfl)
theorem dX1_build_88 : decode cX1_build 88 = .ok (.aload 6, 2) := dk_25 6 (dk_at dksX1_build_3 19 rfl rfl)
theorem dX1_build_90 : decode cX1_build 90 = .ok (.putfield 137, 3) := dk_181 0 137 (dk_at dksX1_build_3 21 rfl rfl)
theorem dX1_build_93 : decode cX1_build 93 = .ok (.aload 6, 2) := dk_25 6 (dk_at dksX1_build_4 0 rfl rfl)
theorem dX1_build_95 : decode cX1_build 95 = .ok (.getfield 170, 3) := dk_180 0 170 (dk_at dksX1_build_4 2 rfl rfl)
theorem dX1_build_98 : decode cX1_build 98 = .ok (.ifnull 13, 3) := dk_198 0 13 (dk_at dksX1_build_4 5 rfl rfl)
theorem dX1_build_101 : decode cX1_build 101 = .ok (.aload 6, 2) := dk_25 6 (dk_at dksX1_build_4 8 rfl rfl)
theorem dX1_build_103 : decode cX1_build 103 = .ok (.getfield 170, 3) := dk_180 0 170 (dk_at dksX1_build_4 10 rfl rfl)
theorem dX1_build_106 : decode cX1_build 106 = .ok (.aload 6, 2) := dk_25 6 (dk_at dksX1_build_4 13 rfl rfl)
theorem dX1_build_108 : decode cX1_build 108 = .ok (.putfield 137, 3) := dk_181 0 137 (dk_at dksX1_build_4 15 rfl rfl)
theorem dX1_build_111 : decode cX1_build 111 = .ok (.aload 6, 2) := dk_25 6 (dk_at dksX1_build_4 18 rfl rfl)
theorem dX1_build_113 : decode cX1_build 113 = .ok (.invokevirtual 151, 3) := dk_182 0 151 (dk_at dksX1_build_4 20 rfl rfl)
theorem dX1_build_116 : decode cX1_build 116 = .ok (.aload 6, 2) := dk_25 6 (dk_at dksX1_build_5 0 rfl rfl)
theorem dX1_build_118 : decode cX1_build 118 = .ok (.areturn, 1) := dk_176 (dk_at dksX1_build_5 2 rfl rfl)
abbrev cX1_size : ByteArray := prog_1_method_31_code
def yX1_size : MethodName := ⟨RX1, "size", "()I"⟩
def dkwX1_size_0 : List UInt8 := [42, 180, 0, 210, 42, 180, 0, 213, 100, 172]
abbrev dktX1_size_0 : List UInt8 := dkwX1_size_0 ++ []
theorem dksX1_size_0 : cX1_size.data.toList.drop 0 = dktX1_size_0 := by decide +kernel
theorem dX1_size_0 : decode cX1_size 0 = .ok (.aload_n 0, 1) := dk_42 (dk_at dksX1_size_0 0 rfl rfl)
theorem dX1_size_1 : decode cX1_size 1 = .ok (.getfield 210, 3) := dk_180 0 210 (dk_at dksX1_size_0 1 rfl rfl)
theorem dX1_size_4 : decode cX1_size 4 = .ok (.aload_n 0, 1) := dk_42 (dk_at dksX1_size_0 4 rfl rfl)
theorem dX1_size_5 : decode cX1_size 5 = .ok (.getfield 213, 3) := dk_180 0 213 (dk_at dksX1_size_0 5 rfl rfl)
theorem dX1_size_8 : decode cX1_size 8 = .ok (.isub, 1) := dk_100 (dk_at dksX1_size_0 8 rfl rfl)
theorem dX1_size_9 : decode cX1_size 9 = .ok (.ireturn, 1) := dk_172 (dk_at dksX1_size_0 9 rfl rfl)
abbrev cX1_nodeCount : ByteArray := prog_1_method_32_code
def yX1_nodeCount : MethodName := ⟨RX1, "nodeCount", "()I"⟩
theorem dX1_nodeCount_0 : decode cX1_nodeCount 0 = .ok (.aload_n 0, 1) := by decide +kernel
theorem dX1_nodeCount_1 : decode cX1_nodeCount 1 = .ok (.getfield 210, 3) := by decide +kernel
theorem dX1_nodeCount_4 : decode cX1_nodeCount 4 = .ok (.ireturn, 1) := by decide +kernel
abbrev cX1_height : ByteArray := prog_1_method_34_code
def yX1_height : MethodName := ⟨RX1, "height", "()I"⟩
def dkwX1_height_0 : List UInt8 := [42, 180, 0, 173, 184, 1, 22, 172]
abbrev dktX1_height_0 : List UInt8 := dkwX1_height_0 ++ []
theorem dksX1_height_0 : cX1_height.data.toList.drop 0 = dktX1_height_0 := by decide +kernel
theorem dX1_height_0 : decode cX1_height 0 = .ok (.aload_n 0, 1) := dk_42 (dk_at dksX1_height_0 0 rfl rfl)
theorem dX1_height_1 : decode cX1_height 1 = .ok (.getfield 173, 3) := dk_180 0 173 (dk_at dksX1_height_0 1 rfl rfl)
theorem dX1_height_4 : decode cX1_height 4 = .ok (.invokestatic 278, 3) := dk_184 1 22 (dk_at dksX1_height_0 4 rfl rfl)
theorem dX1_height_7 : decode cX1_height 7 = .ok (.ireturn, 1) := dk_172 (dk_at dksX1_height_0 7 rfl rfl)
abbrev cX1_heightOf : ByteArray := prog_1_method_33_code
def yX1_heightOf : MethodName := ⟨RX1, "heightOf", "(LIntervalTree$Node;)I"⟩
def dkwX1_heightOf_1 : List UInt8 := [184, 1, 25, 96, 172]
abbrev dktX1_heightOf_1 : List UInt8 := dkwX1_heightOf_1 ++ []
def dkwX1_heightOf_0 : List UInt8 := [42, 199, 0, 7, 3, 167, 0, 22, 4, 42, 180, 0, 163, 184, 1, 22, 42, 180, 0, 170, 184, 1, 22]
abbrev dktX1_heightOf_0 : List UInt8 := dkwX1_heightOf_0 ++ dktX1_heightOf_1
theorem dksX1_heightOf_0 : cX1_heightOf.data.toList.drop 0 = dktX1_heightOf_0 := by decide +kernel
theorem dksX1_heightOf_1 : cX1_heightOf.data.toList.drop 23 = dktX1_heightOf_1 := dk_seg dksX1_heightOf_0 23 rfl rfl
theorem dX1_heightOf_0 : decode cX1_heightOf 0 = .ok (.aload_n 0, 1) := dk_42 (dk_at dksX1_heightOf_0 0 rfl rfl)
theorem dX1_heightOf_1 : decode cX1_heightOf 1 = .ok (.ifnonnull 7, 3) := dk_199 0 7 (dk_at dksX1_heightOf_0 1 rfl rfl)
theorem dX1_heightOf_4 : decode cX1_heightOf 4 = .ok (.iconst 0, 1) := dk_3 (dk_at dksX1_heightOf_0 4 rfl rfl)
theorem dX1_heightOf_5 : decode cX1_heightOf 5 = .ok (.goto 22, 3) := dk_167 0 22 (dk_at dksX1_heightOf_0 5 rfl rfl)
theorem dX1_heightOf_8 : decode cX1_heightOf 8 = .ok (.iconst 1, 1) := dk_4 (dk_at dksX1_heightOf_0 8 rfl rfl)
theorem dX1_heightOf_9 : decode cX1_heightOf 9 = .ok (.aload_n 0, 1) := dk_42 (dk_at dksX1_heightOf_0 9 rfl rfl)
theorem dX1_heightOf_10 : decode cX1_heightOf 10 = .ok (.getfield 163, 3) := dk_180 0 163 (dk_at dksX1_heightOf_0 10 rfl rfl)
theorem dX1_heightOf_13 : decode cX1_heightOf 13 = .ok (.invokestatic 278, 3) := dk_184 1 22 (dk_at dksX1_heightOf_0 13 rfl rfl)
theorem dX1_heightOf_16 : decode cX1_heightOf 16 = .ok (.aload_n 0, 1) := dk_42 (dk_at dksX1_heightOf_0 16 rfl rfl)
theorem dX1_heightOf_17 : decode cX1_heightOf 17 = .ok (.getfield 170, 3) := dk_180 0 170 (dk_at dksX1_heightOf_0 17 rfl rfl)
theorem dX1_heightOf_20 : decode cX1_heightOf 20 = .ok (.invokestatic 278, 3) := dk_184 1 22 (dk_at dksX1_heightOf_0 20 rfl rfl)
theorem dX1_heightOf_23 : decode cX1_heightOf 23 = .ok (.invokestatic 281, 3) := dk_184 1 25 (dk_at dksX1_heightOf_1 0 rfl rfl)
theorem dX1_heightOf_26 : decode cX1_heightOf 26 = .ok (.iadd, 1) := dk_96 (dk_at dksX1_heightOf_1 3 rfl rfl)
theorem dX1_heightOf_27 : decode cX1_heightOf 27 = .ok (.ireturn, 1) := dk_172 (dk_at dksX1_heightOf_1 4 rfl rfl)
abbrev cX1_rebuildCount : ByteArray := prog_1_method_35_code
def yX1_rebuildCount : MethodName := ⟨RX1, "rebuildCount", "()I"⟩
theorem dX1_rebuildCount_0 : decode cX1_rebuildCount 0 = .ok (.aload_n 0, 1) := by decide +kernel
theorem dX1_rebuildCount_1 : decode cX1_rebuildCount 1 = .ok (.getfield 272, 3) := by decide +kernel
theorem dX1_rebuildCount_4 : decode cX1_rebuildCount 4 = .ok (.ireturn, 1) := by decide +kernel
abbrev cX1_rebuiltNodes : ByteArray := prog_1_method_36_code
def yX1_rebuiltNodes : MethodName := ⟨RX1, "rebuiltNodes", "()I"⟩
theorem dX1_rebuiltNodes_0 : decode cX1_rebuiltNodes 0 = .ok (.aload_n 0, 1) := by decide +kernel
theorem dX1_rebuiltNodes_1 : decode cX1_rebuiltNodes 1 = .ok (.getfield 275, 3) := by decide +kernel
theorem dX1_rebuiltNodes_4 : decode cX1_rebuiltNodes 4 = .ok (.ireturn, 1) := by decide +kernel
abbrev cX1_digest : ByteArray := prog_1_method_51_code
def yX1_digest : MethodName := ⟨RX1, "digest", "()I"⟩
def dkwX1_digest_0 : List UInt8 := [42, 180, 0, 173, 2, 184, 1, 55, 172]
abbrev dktX1_digest_0 : List UInt8 := dkwX1_digest_0 ++ []
theorem dksX1_digest_0 : cX1_digest.data.toList.drop 0 = dktX1_digest_0 := by decide +kernel
theorem dX1_digest_0 : decode cX1_digest 0 = .ok (.aload_n 0, 1) := dk_42 (dk_at dksX1_digest_0 0 rfl rfl)
theorem dX1_digest_1 : decode cX1_digest 1 = .ok (.getfield 173, 3) := dk_180 0 173 (dk_at dksX1_digest_0 1 rfl rfl)
theorem dX1_digest_4 : decode cX1_digest 4 = .ok (.iconst (-1), 1) := dk_2 (dk_at dksX1_digest_0 4 rfl rfl)
theorem dX1_digest_5 : decode cX1_digest 5 = .ok (.invokestatic 311, 3) := dk_184 1 55 (dk_at dksX1_digest_0 5 rfl rfl)
theorem dX1_digest_8 : decode cX1_digest 8 = .ok (.ireturn, 1) := dk_172 (dk_at dksX1_digest_0 8 rfl rfl)
abbrev cX1_digestOf : ByteArray := prog_1_method_50_code
def yX1_digestOf : MethodName := ⟨RX1, "digestOf", "(LIntervalTree$Node;I)I"⟩
def dkwX1_digestOf_3 : List UInt8 := [180, 0, 163, 28, 184, 1, 55, 184, 1, 55, 172]
abbrev dktX1_digestOf_3 : List UInt8 := dkwX1_digestOf_3 ++ []
def dkwX1_digestOf_2 : List UInt8 := [42, 180, 0, 129, 153, 0, 7, 4, 167, 0, 4, 3, 79, 184, 1, 51, 61, 42, 180, 0, 170, 42]
abbrev dktX1_digestOf_2 : List UInt8 := dkwX1_digestOf_2 ++ dktX1_digestOf_3
def dkwX1_digestOf_1 : List UInt8 := [180, 0, 231, 16, 8, 122, 79, 89, 5, 42, 180, 0, 191, 153, 0, 7, 4, 167, 0, 4, 3, 79, 89, 6]
abbrev dktX1_digestOf_1 : List UInt8 := dkwX1_digestOf_1 ++ dktX1_digestOf_2
def dkwX1_digestOf_0 : List UInt8 := [42, 199, 0, 5, 27, 172, 27, 7, 188, 10, 89, 3, 42, 180, 0, 231, 17, 0, 255, 126, 79, 89, 4, 42]
abbrev dktX1_digestOf_0 : List UInt8 := dkwX1_digestOf_0 ++ dktX1_digestOf_1
theorem dksX1_digestOf_0 : cX1_digestOf.data.toList.drop 0 = dktX1_digestOf_0 := by decide +kernel
theorem dksX1_digestOf_1 : cX1_digestOf.data.toList.drop 24 = dktX1_digestOf_1 := dk_seg dksX1_digestOf_0 24 rfl rfl
theorem dksX1_digestOf_2 : cX1_digestOf.data.toList.drop 48 = dktX1_digestOf_2 := dk_seg dksX1_digestOf_1 24 rfl rfl
theorem dksX1_digestOf_3 : cX1_digestOf.data.toList.drop 70 = dktX1_digestOf_3 := dk_seg dksX1_digestOf_2 22 rfl rfl
theorem dX1_digestOf_0 : decode cX1_digestOf 0 = .ok (.aload_n 0, 1) := dk_42 (dk_at dksX1_digestOf_0 0 rfl rfl)
theorem dX1_digestOf_1 : decode cX1_digestOf 1 = .ok (.ifnonnull 5, 3) := dk_199 0 5 (dk_at dksX1_digestOf_0 1 rfl rfl)
theorem dX1_digestOf_4 : decode cX1_digestOf 4 = .ok (.iload_n 1, 1) := dk_27 (dk_at dksX1_digestOf_0 4 rfl rfl)
theorem dX1_digestOf_5 : decode cX1_digestOf 5 = .ok (.ireturn, 1) := dk_172 (dk_at dksX1_digestOf_0 5 rfl rfl)
theorem dX1_digestOf_6 : decode cX1_digestOf 6 = .ok (.iload_n 1, 1) := dk_27 (dk_at dksX1_digestOf_0 6 rfl rfl)
theorem dX1_digestOf_7 : decode cX1_digestOf 7 = .ok (.iconst 4, 1) := dk_7 (dk_at dksX1_digestOf_0 7 rfl rfl)
theorem dX1_digestOf_8 : decode cX1_digestOf 8 = .ok (.newarray .int, 2) := dk_188_10 (dk_at dksX1_digestOf_0 8 rfl rfl)
theorem dX1_digestOf_10 : decode cX1_digestOf 10 = .ok (.dup, 1) := dk_89 (dk_at dksX1_digestOf_0 10 rfl rfl)
theorem dX1_digestOf_11 : decode cX1_digestOf 11 = .ok (.iconst 0, 1) := dk_3 (dk_at dksX1_digestOf_0 11 rfl rfl)
theorem dX1_digestOf_12 : decode cX1_digestOf 12 = .ok (.aload_n 0, 1) := dk_42 (dk_at dksX1_digestOf_0 12 rfl rfl)
theorem dX1_digestOf_13 : decode cX1_digestOf 13 = .ok (.getfield 231, 3) := dk_180 0 231 (dk_at dksX1_digestOf_0 13 rfl rfl)
theorem dX1_digestOf_16 : decode cX1_digestOf 16 = .ok (.sipush 255, 3) := dk_17 0 255 (dk_at dksX1_digestOf_0 16 rfl rfl)
theorem dX1_digestOf_19 : decode cX1_digestOf 19 = .ok (.iand, 1) := dk_126 (dk_at dksX1_digestOf_0 19 rfl rfl)
theorem dX1_digestOf_20 : decode cX1_digestOf 20 = .ok (.iastore, 1) := dk_79 (dk_at dksX1_digestOf_0 20 rfl rfl)
theorem dX1_digestOf_21 : decode cX1_digestOf 21 = .ok (.dup, 1) := dk_89 (dk_at dksX1_digestOf_0 21 rfl rfl)
theorem dX1_digestOf_22 : decode cX1_digestOf 22 = .ok (.iconst 1, 1) := dk_4 (dk_at dksX1_digestOf_0 22 rfl rfl)
theorem dX1_digestOf_23 : decode cX1_digestOf 23 = .ok (.aload_n 0, 1) := dk_42 (dk_at dksX1_digestOf_0 23 rfl rfl)
theorem dX1_digestOf_24 : decode cX1_digestOf 24 = .ok (.getfield 231, 3) := dk_180 0 231 (dk_at dksX1_digestOf_1 0 rfl rfl)
theorem dX1_digestOf_27 : decode cX1_digestOf 27 = .ok (.bipush 8, 2) := dk_16 8 (dk_at dksX1_digestOf_1 3 rfl rfl)
theorem dX1_digestOf_29 : decode cX1_digestOf 29 = .ok (.ishr, 1) := dk_122 (dk_at dksX1_digestOf_1 5 rfl rfl)
theorem dX1_digestOf_30 : decode cX1_digestOf 30 = .ok (.iastore, 1) := dk_79 (dk_at dksX1_digestOf_1 6 rfl rfl)
theorem dX1_digestOf_31 : decode cX1_digestOf 31 = .ok (.dup, 1) := dk_89 (dk_at dksX1_digestOf_1 7 rfl rfl)
theorem dX1_digestOf_32 : decode cX1_digestOf 32 = .ok (.iconst 2, 1) := dk_5 (dk_at dksX1_digestOf_1 8 rfl rfl)
theorem dX1_digestOf_33 : decode cX1_digestOf 33 = .ok (.aload_n 0, 1) := dk_42 (dk_at dksX1_digestOf_1 9 rfl rfl)
theorem dX1_digestOf_34 : decode cX1_digestOf 34 = .ok (.getfield 191, 3) := dk_180 0 191 (dk_at dksX1_digestOf_1 10 rfl rfl)
theorem dX1_digestOf_37 : decode cX1_digestOf 37 = .ok (.ifCond .eq 7, 3) := dk_153 0 7 (dk_at dksX1_digestOf_1 13 rfl rfl)
theorem dX1_digestOf_40 : decode cX1_digestOf 40 = .ok (.iconst 1, 1) := dk_4 (dk_at dksX1_digestOf_1 16 rfl rfl)
theorem dX1_digestOf_41 : decode cX1_digestOf 41 = .ok (.goto 4, 3) := dk_167 0 4 (dk_at dksX1_digestOf_1 17 rfl rfl)
theorem dX1_digestOf_44 : decode cX1_digestOf 44 = .ok (.iconst 0, 1) := dk_3 (dk_at dksX1_digestOf_1 20 rfl rfl)
theorem dX1_digestOf_45 : decode cX1_digestOf 45 = .ok (.iastore, 1) := dk_79 (dk_at dksX1_digestOf_1 21 rfl rfl)
theorem dX1_digestOf_46 : decode cX1_digestOf 46 = .ok (.dup, 1) := dk_89 (dk_at dksX1_digestOf_1 22 rfl rfl)
theorem dX1_digestOf_47 : decode cX1_digestOf 47 = .ok (.iconst 3, 1) := dk_6 (dk_at dksX1_digestOf_1 23 rfl rfl)
theorem dX1_digestOf_48 : decode cX1_digestOf 48 = .ok (.aload_n 0, 1) := dk_42 (dk_at dksX1_digestOf_2 0 rfl rfl)
theorem dX1_digestOf_49 : decode cX1_digestOf 49 = .ok (.getfield 129, 3) := dk_180 0 129 (dk_at dksX1_digestOf_2 1 rfl rfl)
theorem dX1_digestOf_52 : decode cX1_digestOf 52 = .ok (.ifCond .eq 7, 3) := dk_153 0 7 (dk_at dksX1_digestOf_2 4 rfl rfl)
theorem dX1_digestOf_55 : decode cX1_digestOf 55 = .ok (.iconst 1, 1) := dk_4 (dk_at dksX1_digestOf_2 7 rfl rfl)
theorem dX1_digestOf_56 : decode cX1_digestOf 56 = .ok (.goto 4, 3) := dk_167 0 4 (dk_at dksX1_digestOf_2 8 rfl rfl)
theorem dX1_digestOf_59 : decode cX1_digestOf 59 = .ok (.iconst 0, 1) := dk_3 (dk_at dksX1_digestOf_2 11 rfl rfl)
theorem dX1_digestOf_60 : decode cX1_digestOf 60 = .ok (.iastore, 1) := dk_79 (dk_at dksX1_digestOf_2 12 rfl rfl)
theorem dX1_digestOf_61 : decode cX1_digestOf 61 = .ok (.invokestatic 307, 3) := dk_184 1 51 (dk_at dksX1_digestOf_2 13 rfl rfl)
theorem dX1_digestOf_64 : decode cX1_digestOf 64 = .ok (.istore_n 2, 1) := dk_61 (dk_at dksX1_digestOf_2 16 rfl rfl)
theorem dX1_digestOf_65 : decode cX1_digestOf 65 = .ok (.aload_n 0, 1) := dk_42 (dk_at dksX1_digestOf_2 17 rfl rfl)
theorem dX1_digestOf_66 : decode cX1_digestOf 66 = .ok (.getfield 170, 3) := dk_180 0 170 (dk_at dksX1_digestOf_2 18 rfl rfl)
theorem dX1_digestOf_69 : decode cX1_digestOf 69 = .ok (.aload_n 0, 1) := dk_42 (dk_at dksX1_digestOf_2 21 rfl rfl)
theorem dX1_digestOf_70 : decode cX1_digestOf 70 = .ok (.getfield 163, 3) := dk_180 0 163 (dk_at dksX1_digestOf_3 0 rfl rfl)
theorem dX1_digestOf_73 : decode cX1_digestOf 73 = .ok (.iload_n 2, 1) := dk_28 (dk_at dksX1_digestOf_3 3 rfl rfl)
theorem dX1_digestOf_74 : decode cX1_digestOf 74 = .ok (.invokestatic 311, 3) := dk_184 1 55 (dk_at dksX1_digestOf_3 4 rfl rfl)
theorem dX1_digestOf_77 : decode cX1_digestOf 77 = .ok (.invokestatic 311, 3) := dk_184 1 55 (dk_at dksX1_digestOf_3 7 rfl rfl)
theorem dX1_digestOf_80 : decode cX1_digestOf 80 = .ok (.ireturn, 1) := dk_172 (dk_at dksX1_digestOf_3 10 rfl rfl)
abbrev cX1_absorb : ByteArray := prog_1_method_49_code
def yX1_absorb : MethodName := ⟨RX1, "absorb", "(I[I)I"⟩
def dkwX1_absorb_2 : List UInt8 := [28, 172]
abbrev dktX1_absorb_2 : List UInt8 := dkwX1_absorb_2 ++ []
def dkwX1_absorb_1 : List UInt8 := [28, 16, 8, 124, 178, 1, 48, 28, 21, 6, 130, 17, 0, 255, 126, 46, 130, 61, 132, 5, 1, 167, 255, 222]
abbrev dktX1_absorb_1 : List UInt8 := dkwX1_absorb_1 ++ dktX1_absorb_2
def dkwX1_absorb_0 : List UInt8 := [26, 61, 43, 78, 45, 190, 54, 4, 3, 54, 5, 21, 5, 21, 4, 162, 0, 33, 45, 21, 5, 46, 54, 6]
abbrev dktX1_absorb_0 : List UInt8 := dkwX1_absorb_0 ++ dktX1_absorb_1
theorem dksX1_absorb_0 : cX1_absorb.data.toList.drop 0 = dktX1_absorb_0 := by decide +kernel
theorem dksX1_absorb_1 : cX1_absorb.data.toList.drop 24 = dktX1_absorb_1 := dk_seg dksX1_absorb_0 24 rfl rfl
theorem dksX1_absorb_2 : cX1_absorb.data.toList.drop 48 = dktX1_absorb_2 := dk_seg dksX1_absorb_1 24 rfl rfl
theorem dX1_absorb_0 : decode cX1_absorb 0 = .ok (.iload_n 0, 1) := dk_26 (dk_at dksX1_absorb_0 0 rfl rfl)
theorem dX1_absorb_1 : decode cX1_absorb 1 = .ok (.istore_n 2, 1) := dk_61 (dk_at dksX1_absorb_0 1 rfl rfl)
theorem dX1_absorb_2 : decode cX1_absorb 2 = .ok (.aload_n 1, 1) := dk_43 (dk_at dksX1_absorb_0 2 rfl rfl)
theorem dX1_absorb_3 : decode cX1_absorb 3 = .ok (.astore_n 3, 1) := dk_78 (dk_at dksX1_absorb_0 3 rfl rfl)
theorem dX1_absorb_4 : decode cX1_absorb 4 = .ok (.aload_n 3, 1) := dk_45 (dk_at dksX1_absorb_0 4 rfl rfl)
theorem dX1_absorb_5 : decode cX1_absorb 5 = .ok (.arraylength, 1) := dk_190 (dk_at dksX1_absorb_0 5 rfl rfl)
theorem dX1_absorb_6 : decode cX1_absorb 6 = .ok (.istore 4, 2) := dk_54 4 (dk_at dksX1_absorb_0 6 rfl rfl)
theorem dX1_absorb_8 : decode cX1_absorb 8 = .ok (.iconst 0, 1) := dk_3 (dk_at dksX1_absorb_0 8 rfl rfl)
theorem dX1_absorb_9 : decode cX1_absorb 9 = .ok (.istore 5, 2) := dk_54 5 (dk_at dksX1_absorb_0 9 rfl rfl)
theorem dX1_absorb_11 : decode cX1_absorb 11 = .ok (.iload 5, 2) := dk_21 5 (dk_at dksX1_absorb_0 11 rfl rfl)
theorem dX1_absorb_13 : decode cX1_absorb 13 = .ok (.iload 4, 2) := dk_21 4 (dk_at dksX1_absorb_0 13 rfl rfl)
theorem dX1_absorb_15 : decode cX1_absorb 15 = .ok (.if_icmp .ge 33, 3) := dk_162 0 33 (dk_at dksX1_absorb_0 15 rfl rfl)
theorem dX1_absorb_18 : decode cX1_absorb 18 = .ok (.aload_n 3, 1) := dk_45 (dk_at dksX1_absorb_0 18 rfl rfl)
theorem dX1_absorb_19 : decode cX1_absorb 19 = .ok (.iload 5, 2) := dk_21 5 (dk_at dksX1_absorb_0 19 rfl rfl)
theorem dX1_absorb_21 : decode cX1_absorb 21 = .ok (.iaload, 1) := dk_46 (dk_at dksX1_absorb_0 21 rfl rfl)
theorem dX1_absorb_22 : decode cX1_absorb 22 = .ok (.istore 6, 2) := dk_54 6 (dk_at dksX1_absorb_0 22 rfl rfl)
theorem dX1_absorb_24 : decode cX1_absorb 24 = .ok (.iload_n 2, 1) := dk_28 (dk_at dksX1_absorb_1 0 rfl rfl)
theorem dX1_absorb_25 : decode cX1_absorb 25 = .ok (.bipush 8, 2) := dk_16 8 (dk_at dksX1_absorb_1 1 rfl rfl)
theorem dX1_absorb_27 : decode cX1_absorb 27 = .ok (.iushr, 1) := dk_124 (dk_at dksX1_absorb_1 3 rfl rfl)
theorem dX1_absorb_28 : decode cX1_absorb 28 = .ok (.getstatic 304, 3) := dk_178 1 48 (dk_at dksX1_absorb_1 4 rfl rfl)
theorem dX1_absorb_31 : decode cX1_absorb 31 = .ok (.iload_n 2, 1) := dk_28 (dk_at dksX1_absorb_1 7 rfl rfl)
theorem dX1_absorb_32 : decode cX1_absorb 32 = .ok (.iload 6, 2) := dk_21 6 (dk_at dksX1_absorb_1 8 rfl rfl)
theorem dX1_absorb_34 : decode cX1_absorb 34 = .ok (.ixor, 1) := dk_130 (dk_at dksX1_absorb_1 10 rfl rfl)
theorem dX1_absorb_35 : decode cX1_absorb 35 = .ok (.sipush 255, 3) := dk_17 0 255 (dk_at dksX1_absorb_1 11 rfl rfl)
theorem dX1_absorb_38 : decode cX1_absorb 38 = .ok (.iand, 1) := dk_126 (dk_at dksX1_absorb_1 14 rfl rfl)
theorem dX1_absorb_39 : decode cX1_absorb 39 = .ok (.iaload, 1) := dk_46 (dk_at dksX1_absorb_1 15 rfl rfl)
theorem dX1_absorb_40 : decode cX1_absorb 40 = .ok (.ixor, 1) := dk_130 (dk_at dksX1_absorb_1 16 rfl rfl)
theorem dX1_absorb_41 : decode cX1_absorb 41 = .ok (.istore_n 2, 1) := dk_61 (dk_at dksX1_absorb_1 17 rfl rfl)
theorem dX1_absorb_42 : decode cX1_absorb 42 = .ok (.iinc 5 1, 3) := dk_132 5 1 (dk_at dksX1_absorb_1 18 rfl rfl)
theorem dX1_absorb_45 : decode cX1_absorb 45 = .ok (.goto (-34), 3) := dk_167 255 222 (dk_at dksX1_absorb_1 21 rfl rfl)
theorem dX1_absorb_48 : decode cX1_absorb 48 = .ok (.iload_n 2, 1) := dk_28 (dk_at dksX1_absorb_2 0 rfl rfl)
theorem dX1_absorb_49 : decode cX1_absorb 49 = .ok (.ireturn, 1) := dk_172 (dk_at dksX1_absorb_2 1 rfl rfl)
abbrev cX1_stabCount : ByteArray := prog_1_method_53_code
def yX1_stabCount : MethodName := ⟨RX1, "stabCount", "(I)I"⟩
def dkwX1_stabCount_0 : List UInt8 := [42, 3, 181, 1, 63, 42, 42, 180, 0, 173, 27, 182, 1, 59, 42, 180, 1, 63, 172]
abbrev dktX1_stabCount_0 : List UInt8 := dkwX1_stabCount_0 ++ []
theorem dksX1_stabCount_0 : cX1_stabCount.data.toList.drop 0 = dktX1_stabCount_0 := by decide +kernel
theorem dX1_stabCount_0 : decode cX1_stabCount 0 = .ok (.aload_n 0, 1) := dk_42 (dk_at dksX1_stabCount_0 0 rfl rfl)
theorem dX1_stabCount_1 : decode cX1_stabCount 1 = .ok (.iconst 0, 1) := dk_3 (dk_at dksX1_stabCount_0 1 rfl rfl)
theorem dX1_stabCount_2 : decode cX1_stabCount 2 = .ok (.putfield 319, 3) := dk_181 1 63 (dk_at dksX1_stabCount_0 2 rfl rfl)
theorem dX1_stabCount_5 : decode cX1_stabCount 5 = .ok (.aload_n 0, 1) := dk_42 (dk_at dksX1_stabCount_0 5 rfl rfl)
theorem dX1_stabCount_6 : decode cX1_stabCount 6 = .ok (.aload_n 0, 1) := dk_42 (dk_at dksX1_stabCount_0 6 rfl rfl)
theorem dX1_stabCount_7 : decode cX1_stabCount 7 = .ok (.getfield 173, 3) := dk_180 0 173 (dk_at dksX1_stabCount_0 7 rfl rfl)
theorem dX1_stabCount_10 : decode cX1_stabCount 10 = .ok (.iload_n 1, 1) := dk_27 (dk_at dksX1_stabCount_0 10 rfl rfl)
theorem dX1_stabCount_11 : decode cX1_stabCount 11 = .ok (.invokevirtual 315, 3) := dk_182 1 59 (dk_at dksX1_stabCount_0 11 rfl rfl)
theorem dX1_stabCount_14 : decode cX1_stabCount 14 = .ok (.aload_n 0, 1) := dk_42 (dk_at dksX1_stabCount_0 14 rfl rfl)
theorem dX1_stabCount_15 : decode cX1_stabCount 15 = .ok (.getfield 319, 3) := dk_180 1 63 (dk_at dksX1_stabCount_0 15 rfl rfl)
theorem dX1_stabCount_18 : decode cX1_stabCount 18 = .ok (.ireturn, 1) := dk_172 (dk_at dksX1_stabCount_0 18 rfl rfl)
abbrev cX1_stab : ByteArray := prog_1_method_52_code
def yX1_stab : MethodName := ⟨RX1, "stab", "(LIntervalTree$Node;I)V"⟩
def dkwX1_stab_3 : List UInt8 := [180, 1, 66, 43, 180, 0, 134, 96, 181, 1, 66, 42, 43, 180, 0, 170, 28, 182, 1, 59, 177]
abbrev dktX1_stab_3 : List UInt8 := dkwX1_stab_3 ++ []
def dkwX1_stab_2 : List UInt8 := [154, 0, 34, 43, 180, 0, 110, 28, 161, 0, 26, 42, 89, 180, 1, 63, 4, 96, 181, 1, 63, 42, 89]
abbrev dktX1_stab_2 : List UInt8 := dkwX1_stab_2 ++ dktX1_stab_3
def dkwX1_stab_1 : List UInt8 := [42, 43, 180, 0, 163, 28, 182, 1, 59, 43, 180, 0, 107, 28, 164, 0, 4, 177, 43, 180, 0, 129]
abbrev dktX1_stab_1 : List UInt8 := dkwX1_stab_1 ++ dktX1_stab_2
def dkwX1_stab_0 : List UInt8 := [43, 198, 0, 18, 43, 180, 0, 176, 153, 0, 11, 43, 180, 1, 42, 28, 162, 0, 4, 177, 43, 182, 0, 148]
abbrev dktX1_stab_0 : List UInt8 := dkwX1_stab_0 ++ dktX1_stab_1
theorem dksX1_stab_0 : cX1_stab.data.toList.drop 0 = dktX1_stab_0 := by decide +kernel
theorem dksX1_stab_1 : cX1_stab.data.toList.drop 24 = dktX1_stab_1 := dk_seg dksX1_stab_0 24 rfl rfl
theorem dksX1_stab_2 : cX1_stab.data.toList.drop 46 = dktX1_stab_2 := dk_seg dksX1_stab_1 22 rfl rfl
theorem dksX1_stab_3 : cX1_stab.data.toList.drop 69 = dktX1_stab_3 := dk_seg dksX1_stab_2 23 rfl rfl
theorem dX1_stab_0 : decode cX1_stab 0 = .ok (.aload_n 1, 1) := dk_43 (dk_at dksX1_stab_0 0 rfl rfl)
theorem dX1_stab_1 : decode cX1_stab 1 = .ok (.ifnull 18, 3) := dk_198 0 18 (dk_at dksX1_stab_0 1 rfl rfl)
theorem dX1_stab_4 : decode cX1_stab 4 = .ok (.aload_n 1, 1) := dk_43 (dk_at dksX1_stab_0 4 rfl rfl)
theorem dX1_stab_5 : decode cX1_stab 5 = .ok (.getfield 176, 3) := dk_180 0 176 (dk_at dksX1_stab_0 5 rfl rfl)
theorem dX1_stab_8 : decode cX1_stab 8 = .ok (.ifCond .eq 11, 3) := dk_153 0 11 (dk_at dksX1_stab_0 8 rfl rfl)
theorem dX1_stab_11 : decode cX1_stab 11 = .ok (.aload_n 1, 1) := dk_43 (dk_at dksX1_stab_0 11 rfl rfl)
theorem dX1_stab_12 : decode cX1_stab 12 = .ok (.getfield 298, 3) := dk_180 1 42 (dk_at dksX1_stab_0 12 rfl rfl)
theorem dX1_stab_15 : decode cX1_stab 15 = .ok (.iload_n 2, 1) := dk_28 (dk_at dksX1_stab_0 15 rfl rfl)
theorem dX1_stab_16 : decode cX1_stab 16 = .ok (.if_icmp .ge 4, 3) := dk_162 0 4 (dk_at dksX1_stab_0 16 rfl rfl)
theorem dX1_stab_19 : decode cX1_stab 19 = .ok (.return_, 1) := dk_177 (dk_at dksX1_stab_0 19 rfl rfl)
theorem dX1_stab_20 : decode cX1_stab 20 = .ok (.aload_n 1, 1) := dk_43 (dk_at dksX1_stab_0 20 rfl rfl)
theorem dX1_stab_21 : decode cX1_stab 21 = .ok (.invokevirtual 148, 3) := dk_182 0 148 (dk_at dksX1_stab_0 21 rfl rfl)
theorem dX1_stab_24 : decode cX1_stab 24 = .ok (.aload_n 0, 1) := dk_42 (dk_at dksX1_stab_1 0 rfl rfl)
theorem dX1_stab_25 : decode cX1_stab 25 = .ok (.aload_n 1, 1) := dk_43 (dk_at dksX1_stab_1 1 rfl rfl)
theorem dX1_stab_26 : decode cX1_stab 26 = .ok (.getfield 163, 3) := dk_180 0 163 (dk_at dksX1_stab_1 2 rfl rfl)
theorem dX1_stab_29 : decode cX1_stab 29 = .ok (.iload_n 2, 1) := dk_28 (dk_at dksX1_stab_1 5 rfl rfl)
theorem dX1_stab_30 : decode cX1_stab 30 = .ok (.invokevirtual 315, 3) := dk_182 1 59 (dk_at dksX1_stab_1 6 rfl rfl)
theorem dX1_stab_33 : decode cX1_stab 33 = .ok (.aload_n 1, 1) := dk_43 (dk_at dksX1_stab_1 9 rfl rfl)
theorem dX1_stab_34 : decode cX1_stab 34 = .ok (.getfield 107, 3) := dk_180 0 107 (dk_at dksX1_stab_1 10 rfl rfl)
theorem dX1_stab_37 : decode cX1_stab 37 = .ok (.iload_n 2, 1) := dk_28 (dk_at dksX1_stab_1 13 rfl rfl)
theorem dX1_stab_38 : decode cX1_stab 38 = .ok (.if_icmp .le 4, 3) := dk_164 0 4 (dk_at dksX1_stab_1 14 rfl rfl)
theorem dX1_stab_41 : decode cX1_stab 41 = .ok (.return_, 1) := dk_177 (dk_at dksX1_stab_1 17 rfl rfl)
theorem dX1_stab_42 : decode cX1_stab 42 = .ok (.aload_n 1, 1) := dk_43 (dk_at dksX1_stab_1 18 rfl rfl)
theorem dX1_stab_43 : decode cX1_stab 43 = .ok (.getfield 129, 3) := dk_180 0 129 (dk_at dksX1_stab_1 19 rfl rfl)
theorem dX1_stab_46 : decode cX1_stab 46 = .ok (.ifCond .ne 34, 3) := dk_154 0 34 (dk_at dksX1_stab_2 0 rfl rfl)
theorem dX1_stab_49 : decode cX1_stab 49 = .ok (.aload_n 1, 1) := dk_43 (dk_at dksX1_stab_2 3 rfl rfl)
theorem dX1_stab_50 : decode cX1_stab 50 = .ok (.getfield 110, 3) := dk_180 0 110 (dk_at dksX1_stab_2 4 rfl rfl)
theorem dX1_stab_53 : decode cX1_stab 53 = .ok (.iload_n 2, 1) := dk_28 (dk_at dksX1_stab_2 7 rfl rfl)
theorem dX1_stab_54 : decode cX1_stab 54 = .ok (.if_icmp .lt 26, 3) := dk_161 0 26 (dk_at dksX1_stab_2 8 rfl rfl)
theorem dX1_stab_57 : decode cX1_stab 57 = .ok (.aload_n 0, 1) := dk_42 (dk_at dksX1_stab_2 11 rfl rfl)
theorem dX1_stab_58 : decode cX1_stab 58 = .ok (.dup, 1) := dk_89 (dk_at dksX1_stab_2 12 rfl rfl)
theorem dX1_stab_59 : decode cX1_stab 59 = .ok (.getfield 319, 3) := dk_180 1 63 (dk_at dksX1_stab_2 13 rfl rfl)
theorem dX1_stab_62 : decode cX1_stab 62 = .ok (.iconst 1, 1) := dk_4 (dk_at dksX1_stab_2 16 rfl rfl)
theorem dX1_stab_63 : decode cX1_stab 63 = .ok (.iadd, 1) := dk_96 (dk_at dksX1_stab_2 17 rfl rfl)
theorem dX1_stab_64 : decode cX1_stab 64 = .ok (.putfield 319, 3) := dk_181 1 63 (dk_at dksX1_stab_2 18 rfl rfl)
theorem dX1_stab_67 : decode cX1_stab 67 = .ok (.aload_n 0, 1) := dk_42 (dk_at dksX1_stab_2 21 rfl rfl)
theorem dX1_stab_68 : decode cX1_stab 68 = .ok (.dup, 1) := dk_89 (dk_at dksX1_stab_2 22 rfl rfl)
theorem dX1_stab_69 : decode cX1_stab 69 = .ok (.getfield 322, 3) := dk_180 1 66 (dk_at dksX1_stab_3 0 rfl rfl)
theorem dX1_stab_72 : decode cX1_stab 72 = .ok (.aload_n 1, 1) := dk_43 (dk_at dksX1_stab_3 3 rfl rfl)
theorem dX1_stab_73 : decode cX1_stab 73 = .ok (.getfield 134, 3) := dk_180 0 134 (dk_at dksX1_stab_3 4 rfl rfl)
theorem dX1_stab_76 : decode cX1_stab 76 = .ok (.iadd, 1) := dk_96 (dk_at dksX1_stab_3 7 rfl rfl)
theorem dX1_stab_77 : decode cX1_stab 77 = .ok (.putfield 322, 3) := dk_181 1 66 (dk_at dksX1_stab_3 8 rfl rfl)
theorem dX1_stab_80 : decode cX1_stab 80 = .ok (.aload_n 0, 1) := dk_42 (dk_at dksX1_stab_3 11 rfl rfl)
theorem dX1_stab_81 : decode cX1_stab 81 = .ok (.aload_n 1, 1) := dk_43 (dk_at dksX1_stab_3 12 rfl rfl)
theorem dX1_stab_82 : decode cX1_stab 82 = .ok (.getfield 170, 3) := dk_180 0 170 (dk_at dksX1_stab_3 13 rfl rfl)
theorem dX1_stab_85 : decode cX1_stab 85 = .ok (.iload_n 2, 1) := dk_28 (dk_at dksX1_stab_3 16 rfl rfl)
theorem dX1_stab_86 : decode cX1_stab 86 = .ok (.invokevirtual 315, 3) := dk_182 1 59 (dk_at dksX1_stab_3 17 rfl rfl)
theorem dX1_stab_89 : decode cX1_stab 89 = .ok (.return_, 1) := dk_177 (dk_at dksX1_stab_3 20 rfl rfl)
abbrev cX1_stabWeight : ByteArray := prog_1_method_54_code
def yX1_stabWeight : MethodName := ⟨RX1, "stabWeight", "(I)I"⟩
def dkwX1_stabWeight_0 : List UInt8 := [42, 3, 181, 1, 66, 42, 42, 180, 0, 173, 27, 182, 1, 59, 42, 180, 1, 66, 172]
abbrev dktX1_stabWeight_0 : List UInt8 := dkwX1_stabWeight_0 ++ []
theorem dksX1_stabWeight_0 : cX1_stabWeight.data.toList.drop 0 = dktX1_stabWeight_0 := by decide +kernel
theorem dX1_stabWeight_0 : decode cX1_stabWeight 0 = .ok (.aload_n 0, 1) := dk_42 (dk_at dksX1_stabWeight_0 0 rfl rfl)
theorem dX1_stabWeight_1 : decode cX1_stabWeight 1 = .ok (.iconst 0, 1) := dk_3 (dk_at dksX1_stabWeight_0 1 rfl rfl)
theorem dX1_stabWeight_2 : decode cX1_stabWeight 2 = .ok (.putfield 322, 3) := dk_181 1 66 (dk_at dksX1_stabWeight_0 2 rfl rfl)
theorem dX1_stabWeight_5 : decode cX1_stabWeight 5 = .ok (.aload_n 0, 1) := dk_42 (dk_at dksX1_stabWeight_0 5 rfl rfl)
theorem dX1_stabWeight_6 : decode cX1_stabWeight 6 = .ok (.aload_n 0, 1) := dk_42 (dk_at dksX1_stabWeight_0 6 rfl rfl)
theorem dX1_stabWeight_7 : decode cX1_stabWeight 7 = .ok (.getfield 173, 3) := dk_180 0 173 (dk_at dksX1_stabWeight_0 7 rfl rfl)
theorem dX1_stabWeight_10 : decode cX1_stabWeight 10 = .ok (.iload_n 1, 1) := dk_27 (dk_at dksX1_stabWeight_0 10 rfl rfl)
theorem dX1_stabWeight_11 : decode cX1_stabWeight 11 = .ok (.invokevirtual 315, 3) := dk_182 1 59 (dk_at dksX1_stabWeight_0 11 rfl rfl)
theorem dX1_stabWeight_14 : decode cX1_stabWeight 14 = .ok (.aload_n 0, 1) := dk_42 (dk_at dksX1_stabWeight_0 14 rfl rfl)
theorem dX1_stabWeight_15 : decode cX1_stabWeight 15 = .ok (.getfield 322, 3) := dk_180 1 66 (dk_at dksX1_stabWeight_0 15 rfl rfl)
theorem dX1_stabWeight_18 : decode cX1_stabWeight 18 = .ok (.ireturn, 1) := dk_172 (dk_at dksX1_stabWeight_0 18 rfl rfl)
abbrev cX1_floor : ByteArray := prog_1_method_63_code
def yX1_floor : MethodName := ⟨RX1, "floor", "(I)I"⟩
def dkwX1_floor_0 : List UInt8 := [42, 180, 0, 173, 27, 184, 1, 89, 184, 1, 34, 172]
abbrev dktX1_floor_0 : List UInt8 := dkwX1_floor_0 ++ []
theorem dksX1_floor_0 : cX1_floor.data.toList.drop 0 = dktX1_floor_0 := by decide +kernel
theorem dX1_floor_0 : decode cX1_floor 0 = .ok (.aload_n 0, 1) := dk_42 (dk_at dksX1_floor_0 0 rfl rfl)
theorem dX1_floor_1 : decode cX1_floor 1 = .ok (.getfield 173, 3) := dk_180 0 173 (dk_at dksX1_floor_0 1 rfl rfl)
theorem dX1_floor_4 : decode cX1_floor 4 = .ok (.iload_n 1, 1) := dk_27 (dk_at dksX1_floor_0 4 rfl rfl)
theorem dX1_floor_5 : decode cX1_floor 5 = .ok (.invokestatic 345, 3) := dk_184 1 89 (dk_at dksX1_floor_0 5 rfl rfl)
theorem dX1_floor_8 : decode cX1_floor 8 = .ok (.invokestatic 290, 3) := dk_184 1 34 (dk_at dksX1_floor_0 8 rfl rfl)
theorem dX1_floor_11 : decode cX1_floor 11 = .ok (.ireturn, 1) := dk_172 (dk_at dksX1_floor_0 11 rfl rfl)
abbrev cX1_floorIn : ByteArray := prog_1_method_62_code
def yX1_floorIn : MethodName := ⟨RX1, "floorIn", "(LIntervalTree$Node;I)LIntervalTree$Node;"⟩
def dkwX1_floorIn_2 : List UInt8 := [180, 0, 129, 153, 0, 14, 42, 180, 0, 163, 27, 184, 1, 89, 167, 0, 4, 42, 176]
abbrev dktX1_floorIn_2 : List UInt8 := dkwX1_floorIn_2 ++ []
def dkwX1_floorIn_1 : List UInt8 := [180, 0, 163, 27, 184, 1, 89, 176, 42, 180, 0, 170, 27, 184, 1, 89, 77, 44, 198, 0, 5, 44, 176, 42]
abbrev dktX1_floorIn_1 : List UInt8 := dkwX1_floorIn_1 ++ dktX1_floorIn_2
def dkwX1_floorIn_0 : List UInt8 := [42, 198, 0, 10, 42, 180, 0, 176, 154, 0, 5, 1, 176, 42, 180, 0, 107, 27, 164, 0, 12, 42]
abbrev dktX1_floorIn_0 : List UInt8 := dkwX1_floorIn_0 ++ dktX1_floorIn_1
theorem dksX1_floorIn_0 : cX1_floorIn.data.toList.drop 0 = dktX1_floorIn_0 := by decide +kernel
theorem dksX1_floorIn_1 : cX1_floorIn.data.toList.drop 22 = dktX1_floorIn_1 := dk_seg dksX1_floorIn_0 22 rfl rfl
theorem dksX1_floorIn_2 : cX1_floorIn.data.toList.drop 46 = dktX1_floorIn_2 := dk_seg dksX1_floorIn_1 24 rfl rfl
theorem dX1_floorIn_0 : decode cX1_floorIn 0 = .ok (.aload_n 0, 1) := dk_42 (dk_at dksX1_floorIn_0 0 rfl rfl)
theorem dX1_floorIn_1 : decode cX1_floorIn 1 = .ok (.ifnull 10, 3) := dk_198 0 10 (dk_at dksX1_floorIn_0 1 rfl rfl)
theorem dX1_floorIn_4 : decode cX1_floorIn 4 = .ok (.aload_n 0, 1) := dk_42 (dk_at dksX1_floorIn_0 4 rfl rfl)
theorem dX1_floorIn_5 : decode cX1_floorIn 5 = .ok (.getfield 176, 3) := dk_180 0 176 (dk_at dksX1_floorIn_0 5 rfl rfl)
theorem dX1_floorIn_8 : decode cX1_floorIn 8 = .ok (.ifCond .ne 5, 3) := dk_154 0 5 (dk_at dksX1_floorIn_0 8 rfl rfl)
theorem dX1_floorIn_11 : decode cX1_floorIn 11 = .ok (.aconst_null, 1) := dk_1 (dk_at dksX1_floorIn_0 11 rfl rfl)
theorem dX1_floorIn_12 : decode cX1_floorIn 12 = .ok (.areturn, 1) := dk_176 (dk_at dksX1_floorIn_0 12 rfl rfl)
theorem dX1_floorIn_13 : decode cX1_floorIn 13 = .ok (.aload_n 0, 1) := dk_42 (dk_at dksX1_floorIn_0 13 rfl rfl)
theorem dX1_floorIn_14 : decode cX1_floorIn 14 = .ok (.getfield 107, 3) := dk_180 0 107 (dk_at dksX1_floorIn_0 14 rfl rfl)
theorem dX1_floorIn_17 : decode cX1_floorIn 17 = .ok (.iload_n 1, 1) := dk_27 (dk_at dksX1_floorIn_0 17 rfl rfl)
theorem dX1_floorIn_18 : decode cX1_floorIn 18 = .ok (.if_icmp .le 12, 3) := dk_164 0 12 (dk_at dksX1_floorIn_0 18 rfl rfl)
theorem dX1_floorIn_21 : decode cX1_floorIn 21 = .ok (.aload_n 0, 1) := dk_42 (dk_at dksX1_floorIn_0 21 rfl rfl)
theorem dX1_floorIn_22 : decode cX1_floorIn 22 = .ok (.getfield 163, 3) := dk_180 0 163 (dk_at dksX1_floorIn_1 0 rfl rfl)
theorem dX1_floorIn_25 : decode cX1_floorIn 25 = .ok (.iload_n 1, 1) := dk_27 (dk_at dksX1_floorIn_1 3 rfl rfl)
theorem dX1_floorIn_26 : decode cX1_floorIn 26 = .ok (.invokestatic 345, 3) := dk_184 1 89 (dk_at dksX1_floorIn_1 4 rfl rfl)
theorem dX1_floorIn_29 : decode cX1_floorIn 29 = .ok (.areturn, 1) := dk_176 (dk_at dksX1_floorIn_1 7 rfl rfl)
theorem dX1_floorIn_30 : decode cX1_floorIn 30 = .ok (.aload_n 0, 1) := dk_42 (dk_at dksX1_floorIn_1 8 rfl rfl)
theorem dX1_floorIn_31 : decode cX1_floorIn 31 = .ok (.getfield 170, 3) := dk_180 0 170 (dk_at dksX1_floorIn_1 9 rfl rfl)
theorem dX1_floorIn_34 : decode cX1_floorIn 34 = .ok (.iload_n 1, 1) := dk_27 (dk_at dksX1_floorIn_1 12 rfl rfl)
theorem dX1_floorIn_35 : decode cX1_floorIn 35 = .ok (.invokestatic 345, 3) := dk_184 1 89 (dk_at dksX1_floorIn_1 13 rfl rfl)
theorem dX1_floorIn_38 : decode cX1_floorIn 38 = .ok (.astore_n 2, 1) := dk_77 (dk_at dksX1_floorIn_1 16 rfl rfl)
theorem dX1_floorIn_39 : decode cX1_floorIn 39 = .ok (.aload_n 2, 1) := dk_44 (dk_at dksX1_floorIn_1 17 rfl rfl)
theorem dX1_floorIn_40 : decode cX1_floorIn 40 = .ok (.ifnull 5, 3) := dk_198 0 5 (dk_at dksX1_floorIn_1 18 rfl rfl)
theorem dX1_floorIn_43 : decode cX1_floorIn 43 = .ok (.aload_n 2, 1) := dk_44 (dk_at dksX1_floorIn_1 21 rfl rfl)
theorem dX1_floorIn_44 : decode cX1_floorIn 44 = .ok (.areturn, 1) := dk_176 (dk_at dksX1_floorIn_1 22 rfl rfl)
theorem dX1_floorIn_45 : decode cX1_floorIn 45 = .ok (.aload_n 0, 1) := dk_42 (dk_at dksX1_floorIn_1 23 rfl rfl)
theorem dX1_floorIn_46 : decode cX1_floorIn 46 = .ok (.getfield 129, 3) := dk_180 0 129 (dk_at dksX1_floorIn_2 0 rfl rfl)
theorem dX1_floorIn_49 : decode cX1_floorIn 49 = .ok (.ifCond .eq 14, 3) := dk_153 0 14 (dk_at dksX1_floorIn_2 3 rfl rfl)
theorem dX1_floorIn_52 : decode cX1_floorIn 52 = .ok (.aload_n 0, 1) := dk_42 (dk_at dksX1_floorIn_2 6 rfl rfl)
theorem dX1_floorIn_53 : decode cX1_floorIn 53 = .ok (.getfield 163, 3) := dk_180 0 163 (dk_at dksX1_floorIn_2 7 rfl rfl)
theorem dX1_floorIn_56 : decode cX1_floorIn 56 = .ok (.iload_n 1, 1) := dk_27 (dk_at dksX1_floorIn_2 10 rfl rfl)
theorem dX1_floorIn_57 : decode cX1_floorIn 57 = .ok (.invokestatic 345, 3) := dk_184 1 89 (dk_at dksX1_floorIn_2 11 rfl rfl)
theorem dX1_floorIn_60 : decode cX1_floorIn 60 = .ok (.goto 4, 3) := dk_167 0 4 (dk_at dksX1_floorIn_2 14 rfl rfl)
theorem dX1_floorIn_63 : decode cX1_floorIn 63 = .ok (.aload_n 0, 1) := dk_42 (dk_at dksX1_floorIn_2 17 rfl rfl)
theorem dX1_floorIn_64 : decode cX1_floorIn 64 = .ok (.areturn, 1) := dk_176 (dk_at dksX1_floorIn_2 18 rfl rfl)
abbrev cX1_idOf : ByteArray := prog_1_method_41_code
def yX1_idOf : MethodName := ⟨RX1, "idOf", "(LIntervalTree$Node;)I"⟩
def dkwX1_idOf_0 : List UInt8 := [42, 199, 0, 7, 2, 167, 0, 7, 42, 180, 0, 231, 172]
abbrev dktX1_idOf_0 : List UInt8 := dkwX1_idOf_0 ++ []
theorem dksX1_idOf_0 : cX1_idOf.data.toList.drop 0 = dktX1_idOf_0 := by decide +kernel
theorem dX1_idOf_0 : decode cX1_idOf 0 = .ok (.aload_n 0, 1) := dk_42 (dk_at dksX1_idOf_0 0 rfl rfl)
theorem dX1_idOf_1 : decode cX1_idOf 1 = .ok (.ifnonnull 7, 3) := dk_199 0 7 (dk_at dksX1_idOf_0 1 rfl rfl)
theorem dX1_idOf_4 : decode cX1_idOf 4 = .ok (.iconst (-1), 1) := dk_2 (dk_at dksX1_idOf_0 4 rfl rfl)
theorem dX1_idOf_5 : decode cX1_idOf 5 = .ok (.goto 7, 3) := dk_167 0 7 (dk_at dksX1_idOf_0 5 rfl rfl)
theorem dX1_idOf_8 : decode cX1_idOf 8 = .ok (.aload_n 0, 1) := dk_42 (dk_at dksX1_idOf_0 8 rfl rfl)
theorem dX1_idOf_9 : decode cX1_idOf 9 = .ok (.getfield 231, 3) := dk_180 0 231 (dk_at dksX1_idOf_0 9 rfl rfl)
theorem dX1_idOf_12 : decode cX1_idOf 12 = .ok (.ireturn, 1) := dk_172 (dk_at dksX1_idOf_0 12 rfl rfl)
abbrev cX1_ceiling : ByteArray := prog_1_method_65_code
def yX1_ceiling : MethodName := ⟨RX1, "ceiling", "(I)I"⟩
def dkwX1_ceiling_0 : List UInt8 := [42, 180, 0, 173, 27, 19, 1, 102, 2, 184, 1, 96, 184, 1, 34, 172]
abbrev dktX1_ceiling_0 : List UInt8 := dkwX1_ceiling_0 ++ []
theorem dksX1_ceiling_0 : cX1_ceiling.data.toList.drop 0 = dktX1_ceiling_0 := by decide +kernel
theorem dX1_ceiling_0 : decode cX1_ceiling 0 = .ok (.aload_n 0, 1) := dk_42 (dk_at dksX1_ceiling_0 0 rfl rfl)
theorem dX1_ceiling_1 : decode cX1_ceiling 1 = .ok (.getfield 173, 3) := dk_180 0 173 (dk_at dksX1_ceiling_0 1 rfl rfl)
theorem dX1_ceiling_4 : decode cX1_ceiling 4 = .ok (.iload_n 1, 1) := dk_27 (dk_at dksX1_ceiling_0 4 rfl rfl)
theorem dX1_ceiling_5 : decode cX1_ceiling 5 = .ok (.ldc_w 358, 3) := dk_19 1 102 (dk_at dksX1_ceiling_0 5 rfl rfl)
theorem dX1_ceiling_8 : decode cX1_ceiling 8 = .ok (.iconst (-1), 1) := dk_2 (dk_at dksX1_ceiling_0 8 rfl rfl)
theorem dX1_ceiling_9 : decode cX1_ceiling 9 = .ok (.invokestatic 352, 3) := dk_184 1 96 (dk_at dksX1_ceiling_0 9 rfl rfl)
theorem dX1_ceiling_12 : decode cX1_ceiling 12 = .ok (.invokestatic 290, 3) := dk_184 1 34 (dk_at dksX1_ceiling_0 12 rfl rfl)
theorem dX1_ceiling_15 : decode cX1_ceiling 15 = .ok (.ireturn, 1) := dk_172 (dk_at dksX1_ceiling_0 15 rfl rfl)
abbrev cX1_ceilingIn : ByteArray := prog_1_method_64_code
def yX1_ceilingIn : MethodName := ⟨RX1, "ceilingIn", "(LIntervalTree$Node;III)LIntervalTree$Node;"⟩
def dkwX1_ceilingIn_3 : List UInt8 := [167, 0, 4, 42, 176]
abbrev dktX1_ceilingIn_3 : List UInt8 := dkwX1_ceilingIn_3 ++ []
def dkwX1_ceilingIn_2 : List UInt8 := [198, 0, 6, 25, 4, 176, 42, 180, 0, 129, 153, 0, 16, 42, 180, 0, 170, 27, 28, 29, 184, 1, 96]
abbrev dktX1_ceilingIn_2 : List UInt8 := dkwX1_ceilingIn_2 ++ dktX1_ceilingIn_3
def dkwX1_ceilingIn_1 : List UInt8 := [180, 0, 170, 27, 28, 29, 184, 1, 96, 176, 42, 180, 0, 163, 27, 28, 29, 184, 1, 96, 58, 4, 25, 4]
abbrev dktX1_ceilingIn_1 : List UInt8 := dkwX1_ceilingIn_1 ++ dktX1_ceilingIn_2
def dkwX1_ceilingIn_0 : List UInt8 := [42, 198, 0, 10, 42, 180, 0, 176, 154, 0, 5, 1, 176, 42, 27, 28, 29, 182, 1, 93, 153, 0, 14, 42]
abbrev dktX1_ceilingIn_0 : List UInt8 := dkwX1_ceilingIn_0 ++ dktX1_ceilingIn_1
theorem dksX1_ceilingIn_0 : cX1_ceilingIn.data.toList.drop 0 = dktX1_ceilingIn_0 := by decide +kernel
theorem dksX1_ceilingIn_1 : cX1_ceilingIn.data.toList.drop 24 = dktX1_ceilingIn_1 := dk_seg dksX1_ceilingIn_0 24 rfl rfl
theorem dksX1_ceilingIn_2 : cX1_ceilingIn.data.toList.drop 48 = dktX1_ceilingIn_2 := dk_seg dksX1_ceilingIn_1 24 rfl rfl
theorem dksX1_ceilingIn_3 : cX1_ceilingIn.data.toList.drop 71 = dktX1_ceilingIn_3 := dk_seg dksX1_ceilingIn_2 23 rfl rfl
theorem dX1_ceilingIn_0 : decode cX1_ceilingIn 0 = .ok (.aload_n 0, 1) := dk_42 (dk_at dksX1_ceilingIn_0 0 rfl rfl)
theorem dX1_ceilingIn_1 : decode cX1_ceilingIn 1 = .ok (.ifnull 10, 3) := dk_198 0 10 (dk_at dksX1_ceilingIn_0 1 rfl rfl)
theorem dX1_ceilingIn_4 : decode cX1_ceilingIn 4 = .ok (.aload_n 0, 1) := dk_42 (dk_at dksX1_ceilingIn_0 4 rfl rfl)
theorem dX1_ceilingIn_5 : decode cX1_ceilingIn 5 = .ok (.getfield 176, 3) := dk_180 0 176 (dk_at dksX1_ceilingIn_0 5 rfl rfl)
theorem dX1_ceilingIn_8 : decode cX1_ceilingIn 8 = .ok (.ifCond .ne 5, 3) := dk_154 0 5 (dk_at dksX1_ceilingIn_0 8 rfl rfl)
theorem dX1_ceilingIn_11 : decode cX1_ceilingIn 11 = .ok (.aconst_null, 1) := dk_1 (dk_at dksX1_ceilingIn_0 11 rfl rfl)
theorem dX1_ceilingIn_12 : decode cX1_ceilingIn 12 = .ok (.areturn, 1) := dk_176 (dk_at dksX1_ceilingIn_0 12 rfl rfl)
theorem dX1_ceilingIn_13 : decode cX1_ceilingIn 13 = .ok (.aload_n 0, 1) := dk_42 (dk_at dksX1_ceilingIn_0 13 rfl rfl)
theorem dX1_ceilingIn_14 : decode cX1_ceilingIn 14 = .ok (.iload_n 1, 1) := dk_27 (dk_at dksX1_ceilingIn_0 14 rfl rfl)
theorem dX1_ceilingIn_15 : decode cX1_ceilingIn 15 = .ok (.iload_n 2, 1) := dk_28 (dk_at dksX1_ceilingIn_0 15 rfl rfl)
theorem dX1_ceilingIn_16 : decode cX1_ceilingIn 16 = .ok (.iload_n 3, 1) := dk_29 (dk_at dksX1_ceilingIn_0 16 rfl rfl)
theorem dX1_ceilingIn_17 : decode cX1_ceilingIn 17 = .ok (.invokevirtual 349, 3) := dk_182 1 93 (dk_at dksX1_ceilingIn_0 17 rfl rfl)
theorem dX1_ceilingIn_20 : decode cX1_ceilingIn 20 = .ok (.ifCond .eq 14, 3) := dk_153 0 14 (dk_at dksX1_ceilingIn_0 20 rfl rfl)
theorem dX1_ceilingIn_23 : decode cX1_ceilingIn 23 = .ok (.aload_n 0, 1) := dk_42 (dk_at dksX1_ceilingIn_0 23 rfl rfl)
theorem dX1_ceilingIn_24 : decode cX1_ceilingIn 24 = .ok (.getfield 170, 3) := dk_180 0 170 (dk_at dksX1_ceilingIn_1 0 rfl rfl)
theorem dX1_ceilingIn_27 : decode cX1_ceilingIn 27 = .ok (.iload_n 1, 1) := dk_27 (dk_at dksX1_ceilingIn_1 3 rfl rfl)
theorem dX1_ceilingIn_28 : decode cX1_ceilingIn 28 = .ok (.iload_n 2, 1) := dk_28 (dk_at dksX1_ceilingIn_1 4 rfl rfl)
theorem dX1_ceilingIn_29 : decode cX1_ceilingIn 29 = .ok (.iload_n 3, 1) := dk_29 (dk_at dksX1_ceilingIn_1 5 rfl rfl)
theorem dX1_ceilingIn_30 : decode cX1_ceilingIn 30 = .ok (.invokestatic 352, 3) := dk_184 1 96 (dk_at dksX1_ceilingIn_1 6 rfl rfl)
theorem dX1_ceilingIn_33 : decode cX1_ceilingIn 33 = .ok (.areturn, 1) := dk_176 (dk_at dksX1_ceilingIn_1 9 rfl rfl)
theorem dX1_ceilingIn_34 : decode cX1_ceilingIn 34 = .ok (.aload_n 0, 1) := dk_42 (dk_at dksX1_ceilingIn_1 10 rfl rfl)
theorem dX1_ceilingIn_35 : decode cX1_ceilingIn 35 = .ok (.getfield 163, 3) := dk_180 0 163 (dk_at dksX1_ceilingIn_1 11 rfl rfl)
theorem dX1_ceilingIn_38 : decode cX1_ceilingIn 38 = .ok (.iload_n 1, 1) := dk_27 (dk_at dksX1_ceilingIn_1 14 rfl rfl)
theorem dX1_ceilingIn_39 : decode cX1_ceilingIn 39 = .ok (.iload_n 2, 1) := dk_28 (dk_at dksX1_ceilingIn_1 15 rfl rfl)
theorem dX1_ceilingIn_40 : decode cX1_ceilingIn 40 = .ok (.iload_n 3, 1) := dk_29 (dk_at dksX1_ceilingIn_1 16 rfl rfl)
theorem dX1_ceilingIn_41 : decode cX1_ceilingIn 41 = .ok (.invokestatic 352, 3) := dk_184 1 96 (dk_at dksX1_ceilingIn_1 17 rfl rfl)
theorem dX1_ceilingIn_44 : decode cX1_ceilingIn 44 = .ok (.astore 4, 2) := dk_58 4 (dk_at dksX1_ceilingIn_1 20 rfl rfl)
theorem dX1_ceilingIn_46 : decode cX1_ceilingIn 46 = .ok (.aload 4, 2) := dk_25 4 (dk_at dksX1_ceilingIn_1 22 rfl rfl)
theorem dX1_ceilingIn_48 : decode cX1_ceilingIn 48 = .ok (.ifnull 6, 3) := dk_198 0 6 (dk_at dksX1_ceilingIn_2 0 rfl rfl)
theorem dX1_ceilingIn_51 : decode cX1_ceilingIn 51 = .ok (.aload 4, 2) := dk_25 4 (dk_at dksX1_ceilingIn_2 3 rfl rfl)
theorem dX1_ceilingIn_53 : decode cX1_ceilingIn 53 = .ok (.areturn, 1) := dk_176 (dk_at dksX1_ceilingIn_2 5 rfl rfl)
theorem dX1_ceilingIn_54 : decode cX1_ceilingIn 54 = .ok (.aload_n 0, 1) := dk_42 (dk_at dksX1_ceilingIn_2 6 rfl rfl)
theorem dX1_ceilingIn_55 : decode cX1_ceilingIn 55 = .ok (.getfield 129, 3) := dk_180 0 129 (dk_at dksX1_ceilingIn_2 7 rfl rfl)
theorem dX1_ceilingIn_58 : decode cX1_ceilingIn 58 = .ok (.ifCond .eq 16, 3) := dk_153 0 16 (dk_at dksX1_ceilingIn_2 10 rfl rfl)
theorem dX1_ceilingIn_61 : decode cX1_ceilingIn 61 = .ok (.aload_n 0, 1) := dk_42 (dk_at dksX1_ceilingIn_2 13 rfl rfl)
theorem dX1_ceilingIn_62 : decode cX1_ceilingIn 62 = .ok (.getfield 170, 3) := dk_180 0 170 (dk_at dksX1_ceilingIn_2 14 rfl rfl)
theorem dX1_ceilingIn_65 : decode cX1_ceilingIn 65 = .ok (.iload_n 1, 1) := dk_27 (dk_at dksX1_ceilingIn_2 17 rfl rfl)
theorem dX1_ceilingIn_66 : decode cX1_ceilingIn 66 = .ok (.iload_n 2, 1) := dk_28 (dk_at dksX1_ceilingIn_2 18 rfl rfl)
theorem dX1_ceilingIn_67 : decode cX1_ceilingIn 67 = .ok (.iload_n 3, 1) := dk_29 (dk_at dksX1_ceilingIn_2 19 rfl rfl)
theorem dX1_ceilingIn_68 : decode cX1_ceilingIn 68 = .ok (.invokestatic 352, 3) := dk_184 1 96 (dk_at dksX1_ceilingIn_2 20 rfl rfl)
theorem dX1_ceilingIn_71 : decode cX1_ceilingIn 71 = .ok (.goto 4, 3) := dk_167 0 4 (dk_at dksX1_ceilingIn_3 0 rfl rfl)
theorem dX1_ceilingIn_74 : decode cX1_ceilingIn 74 = .ok (.aload_n 0, 1) := dk_42 (dk_at dksX1_ceilingIn_3 3 rfl rfl)
theorem dX1_ceilingIn_75 : decode cX1_ceilingIn 75 = .ok (.areturn, 1) := dk_176 (dk_at dksX1_ceilingIn_3 4 rfl rfl)
abbrev cX1_overlapCount : ByteArray := prog_1_method_72_code
def yX1_overlapCount : MethodName := ⟨RX1, "overlapCount", "()I"⟩
def dkwX1_overlapCount_2 : List UInt8 := [163, 0, 12, 132, 1, 1, 132, 3, 1, 167, 255, 221, 132, 2, 1, 167, 255, 203, 27, 172]
abbrev dktX1_overlapCount_2 : List UInt8 := dkwX1_overlapCount_2 ++ []
def dkwX1_overlapCount_1 : List UInt8 := [180, 1, 2, 162, 0, 33, 42, 180, 0, 58, 29, 50, 180, 0, 107, 42, 180, 0, 58, 28, 50, 180, 0, 110]
abbrev dktX1_overlapCount_1 : List UInt8 := dkwX1_overlapCount_1 ++ dktX1_overlapCount_2
def dkwX1_overlapCount_0 : List UInt8 := [42, 182, 1, 12, 3, 60, 3, 61, 28, 42, 180, 1, 2, 162, 0, 51, 28, 4, 96, 62, 29, 42]
abbrev dktX1_overlapCount_0 : List UInt8 := dkwX1_overlapCount_0 ++ dktX1_overlapCount_1
theorem dksX1_overlapCount_0 : cX1_overlapCount.data.toList.drop 0 = dktX1_overlapCount_0 := by decide +kernel
theorem dksX1_overlapCount_1 : cX1_overlapCount.data.toList.drop 22 = dktX1_overlapCount_1 := dk_seg dksX1_overlapCount_0 22 rfl rfl
theorem dksX1_overlapCount_2 : cX1_overlapCount.data.toList.drop 46 = dktX1_overlapCount_2 := dk_seg dksX1_overlapCount_1 24 rfl rfl
theorem dX1_overlapCount_0 : decode cX1_overlapCount 0 = .ok (.aload_n 0, 1) := dk_42 (dk_at dksX1_overlapCount_0 0 rfl rfl)
theorem dX1_overlapCount_1 : decode cX1_overlapCount 1 = .ok (.invokevirtual 268, 3) := dk_182 1 12 (dk_at dksX1_overlapCount_0 1 rfl rfl)
theorem dX1_overlapCount_4 : decode cX1_overlapCount 4 = .ok (.iconst 0, 1) := dk_3 (dk_at dksX1_overlapCount_0 4 rfl rfl)
theorem dX1_overlapCount_5 : decode cX1_overlapCount 5 = .ok (.istore_n 1, 1) := dk_60 (dk_at dksX1_overlapCount_0 5 rfl rfl)
theorem dX1_overlapCount_6 : decode cX1_overlapCount 6 = .ok (.iconst 0, 1) := dk_3 (dk_at dksX1_overlapCount_0 6 rfl rfl)
theorem dX1_overlapCount_7 : decode cX1_overlapCount 7 = .ok (.istore_n 2, 1) := dk_61 (dk_at dksX1_overlapCount_0 7 rfl rfl)
theorem dX1_overlapCount_8 : decode cX1_overlapCount 8 = .ok (.iload_n 2, 1) := dk_28 (dk_at dksX1_overlapCount_0 8 rfl rfl)
theorem dX1_overlapCount_9 : decode cX1_overlapCount 9 = .ok (.aload_n 0, 1) := dk_42 (dk_at dksX1_overlapCount_0 9 rfl rfl)
theorem dX1_overlapCount_10 : decode cX1_overlapCount 10 = .ok (.getfield 258, 3) := dk_180 1 2 (dk_at dksX1_overlapCount_0 10 rfl rfl)
theorem dX1_overlapCount_13 : decode cX1_overlapCount 13 = .ok (.if_icmp .ge 51, 3) := dk_162 0 51 (dk_at dksX1_overlapCount_0 13 rfl rfl)
theorem dX1_overlapCount_16 : decode cX1_overlapCount 16 = .ok (.iload_n 2, 1) := dk_28 (dk_at dksX1_overlapCount_0 16 rfl rfl)
theorem dX1_overlapCount_17 : decode cX1_overlapCount 17 = .ok (.iconst 1, 1) := dk_4 (dk_at dksX1_overlapCount_0 17 rfl rfl)
theorem dX1_overlapCount_18 : decode cX1_overlapCount 18 = .ok (.iadd, 1) := dk_96 (dk_at dksX1_overlapCount_0 18 rfl rfl)
theorem dX1_overlapCount_19 : decode cX1_overlapCount 19 = .ok (.istore_n 3, 1) := dk_62 (dk_at dksX1_overlapCount_0 19 rfl rfl)
theorem dX1_overlapCount_20 : decode cX1_overlapCount 20 = .ok (.iload_n 3, 1) := dk_29 (dk_at dksX1_overlapCount_0 20 rfl rfl)
theorem dX1_overlapCount_21 : decode cX1_overlapCount 21 = .ok (.aload_n 0, 1) := dk_42 (dk_at dksX1_overlapCount_0 21 rfl rfl)
theorem dX1_overlapCount_22 : decode cX1_overlapCount 22 = .ok (.getfield 258, 3) := dk_180 1 2 (dk_at dksX1_overlapCount_1 0 rfl rfl)
theorem dX1_overlapCount_25 : decode cX1_overlapCount 25 = .ok (.if_icmp .ge 33, 3) := dk_162 0 33 (dk_at dksX1_overlapCount_1 3 rfl rfl)
theorem dX1_overlapCount_28 : decode cX1_overlapCount 28 = .ok (.aload_n 0, 1) := dk_42 (dk_at dksX1_overlapCount_1 6 rfl rfl)
theorem dX1_overlapCount_29 : decode cX1_overlapCount 29 = .ok (.getfield 58, 3) := dk_180 0 58 (dk_at dksX1_overlapCount_1 7 rfl rfl)
theorem dX1_overlapCount_32 : decode cX1_overlapCount 32 = .ok (.iload_n 3, 1) := dk_29 (dk_at dksX1_overlapCount_1 10 rfl rfl)
theorem dX1_overlapCount_33 : decode cX1_overlapCount 33 = .ok (.aaload, 1) := dk_50 (dk_at dksX1_overlapCount_1 11 rfl rfl)
theorem dX1_overlapCount_34 : decode cX1_overlapCount 34 = .ok (.getfield 107, 3) := dk_180 0 107 (dk_at dksX1_overlapCount_1 12 rfl rfl)
theorem dX1_overlapCount_37 : decode cX1_overlapCount 37 = .ok (.aload_n 0, 1) := dk_42 (dk_at dksX1_overlapCount_1 15 rfl rfl)
theorem dX1_overlapCount_38 : decode cX1_overlapCount 38 = .ok (.getfield 58, 3) := dk_180 0 58 (dk_at dksX1_overlapCount_1 16 rfl rfl)
theorem dX1_overlapCount_41 : decode cX1_overlapCount 41 = .ok (.iload_n 2, 1) := dk_28 (dk_at dksX1_overlapCount_1 19 rfl rfl)
theorem dX1_overlapCount_42 : decode cX1_overlapCount 42 = .ok (.aaload, 1) := dk_50 (dk_at dksX1_overlapCount_1 20 rfl rfl)
theorem dX1_overlapCount_43 : decode cX1_overlapCount 43 = .ok (.getfield 110, 3) := dk_180 0 110 (dk_at dksX1_overlapCount_1 21 rfl rfl)
theorem dX1_overlapCount_46 : decode cX1_overlapCount 46 = .ok (.if_icmp .gt 12, 3) := dk_163 0 12 (dk_at dksX1_overlapCount_2 0 rfl rfl)
theorem dX1_overlapCount_49 : decode cX1_overlapCount 49 = .ok (.iinc 1 1, 3) := dk_132 1 1 (dk_at dksX1_overlapCount_2 3 rfl rfl)
theorem dX1_overlapCount_52 : decode cX1_overlapCount 52 = .ok (.iinc 3 1, 3) := dk_132 3 1 (dk_at dksX1_overlapCount_2 6 rfl rfl)
theorem dX1_overlapCount_55 : decode cX1_overlapCount 55 = .ok (.goto (-35), 3) := dk_167 255 221 (dk_at dksX1_overlapCount_2 9 rfl rfl)
theorem dX1_overlapCount_58 : decode cX1_overlapCount 58 = .ok (.iinc 2 1, 3) := dk_132 2 1 (dk_at dksX1_overlapCount_2 12 rfl rfl)
theorem dX1_overlapCount_61 : decode cX1_overlapCount 61 = .ok (.goto (-53), 3) := dk_167 255 203 (dk_at dksX1_overlapCount_2 15 rfl rfl)
theorem dX1_overlapCount_64 : decode cX1_overlapCount 64 = .ok (.iload_n 1, 1) := dk_27 (dk_at dksX1_overlapCount_2 18 rfl rfl)
theorem dX1_overlapCount_65 : decode cX1_overlapCount 65 = .ok (.ireturn, 1) := dk_172 (dk_at dksX1_overlapCount_2 19 rfl rfl)
abbrev cX1_scheduleWeight : ByteArray := prog_1_method_74_code
def yX1_scheduleWeight : MethodName := ⟨RX1, "scheduleWeight", "()I"⟩
def dkwX1_scheduleWeight_0 : List UInt8 := [42, 182, 1, 129, 42, 180, 0, 61, 3, 46, 172]
abbrev dktX1_scheduleWeight_0 : List UInt8 := dkwX1_scheduleWeight_0 ++ []
theorem dksX1_scheduleWeight_0 : cX1_scheduleWeight.data.toList.drop 0 = dktX1_scheduleWeight_0 := by decide +kernel
theorem dX1_scheduleWeight_0 : decode cX1_scheduleWeight 0 = .ok (.aload_n 0, 1) := dk_42 (dk_at dksX1_scheduleWeight_0 0 rfl rfl)
theorem dX1_scheduleWeight_1 : decode cX1_scheduleWeight 1 = .ok (.invokevirtual 385, 3) := dk_182 1 129 (dk_at dksX1_scheduleWeight_0 1 rfl rfl)
theorem dX1_scheduleWeight_4 : decode cX1_scheduleWeight 4 = .ok (.aload_n 0, 1) := dk_42 (dk_at dksX1_scheduleWeight_0 4 rfl rfl)
theorem dX1_scheduleWeight_5 : decode cX1_scheduleWeight 5 = .ok (.getfield 61, 3) := dk_180 0 61 (dk_at dksX1_scheduleWeight_0 5 rfl rfl)
theorem dX1_scheduleWeight_8 : decode cX1_scheduleWeight 8 = .ok (.iconst 0, 1) := dk_3 (dk_at dksX1_scheduleWeight_0 8 rfl rfl)
theorem dX1_scheduleWeight_9 : decode cX1_scheduleWeight 9 = .ok (.iaload, 1) := dk_46 (dk_at dksX1_scheduleWeight_0 9 rfl rfl)
theorem dX1_scheduleWeight_10 : decode cX1_scheduleWeight 10 = .ok (.ireturn, 1) := dk_172 (dk_at dksX1_scheduleWeight_0 10 rfl rfl)
abbrev cX1_schedule : ByteArray := prog_1_method_73_code
def yX1_schedule : MethodName := ⟨RX1, "schedule", "()V"⟩
def dkwX1_schedule_4 : List UInt8 := [180, 0, 61, 28, 46, 96, 184, 1, 25, 79, 132, 1, 255, 167, 255, 170, 177]
abbrev dktX1_schedule_4 : List UInt8 := dkwX1_schedule_4 ++ []
def dkwX1_schedule_3 : List UInt8 := [79, 42, 180, 0, 61, 27, 42, 180, 0, 61, 27, 4, 96, 46, 42, 180, 0, 58, 27, 50, 180, 0, 134, 42]
abbrev dktX1_schedule_3 : List UInt8 := dkwX1_schedule_3 ++ dktX1_schedule_4
def dkwX1_schedule_2 : List UInt8 := [42, 180, 0, 58, 27, 50, 180, 0, 110, 163, 0, 9, 132, 2, 1, 167, 255, 224, 42, 180, 0, 65, 27, 28]
abbrev dktX1_schedule_2 : List UInt8 := dkwX1_schedule_2 ++ dktX1_schedule_3
def dkwX1_schedule_1 : List UInt8 := [155, 0, 88, 27, 4, 96, 61, 28, 42, 180, 1, 2, 162, 0, 30, 42, 180, 0, 58, 28, 50, 180, 0, 107]
abbrev dktX1_schedule_1 : List UInt8 := dkwX1_schedule_1 ++ dktX1_schedule_2
def dkwX1_schedule_0 : List UInt8 := [42, 182, 1, 12, 42, 180, 0, 61, 42, 180, 1, 2, 3, 79, 42, 180, 1, 2, 4, 100, 60, 27]
abbrev dktX1_schedule_0 : List UInt8 := dkwX1_schedule_0 ++ dktX1_schedule_1
theorem dksX1_schedule_0 : cX1_schedule.data.toList.drop 0 = dktX1_schedule_0 := by decide +kernel
theorem dksX1_schedule_1 : cX1_schedule.data.toList.drop 22 = dktX1_schedule_1 := dk_seg dksX1_schedule_0 22 rfl rfl
theorem dksX1_schedule_2 : cX1_schedule.data.toList.drop 46 = dktX1_schedule_2 := dk_seg dksX1_schedule_1 24 rfl rfl
theorem dksX1_schedule_3 : cX1_schedule.data.toList.drop 70 = dktX1_schedule_3 := dk_seg dksX1_schedule_2 24 rfl rfl
theorem dksX1_schedule_4 : cX1_schedule.data.toList.drop 94 = dktX1_schedule_4 := dk_seg dksX1_schedule_3 24 rfl rfl
theorem dX1_schedule_0 : decode cX1_schedule 0 = .ok (.aload_n 0, 1) := dk_42 (dk_at dksX1_schedule_0 0 rfl rfl)
theorem dX1_schedule_1 : decode cX1_schedule 1 = .ok (.invokevirtual 268, 3) := dk_182 1 12 (dk_at dksX1_schedule_0 1 rfl rfl)
theorem dX1_schedule_4 : decode cX1_schedule 4 = .ok (.aload_n 0, 1) := dk_42 (dk_at dksX1_schedule_0 4 rfl rfl)
theorem dX1_schedule_5 : decode cX1_schedule 5 = .ok (.getfield 61, 3) := dk_180 0 61 (dk_at dksX1_schedule_0 5 rfl rfl)
theorem dX1_schedule_8 : decode cX1_schedule 8 = .ok (.aload_n 0, 1) := dk_42 (dk_at dksX1_schedule_0 8 rfl rfl)
theorem dX1_schedule_9 : decode cX1_schedule 9 = .ok (.getfield 258, 3) := dk_180 1 2 (dk_at dksX1_schedule_0 9 rfl rfl)
theorem dX1_schedule_12 : decode cX1_schedule 12 = .ok (.iconst 0, 1) := dk_3 (dk_at dksX1_schedule_0 12 rfl rfl)
theorem dX1_schedule_13 : decode cX1_schedule 13 = .ok (.iastore, 1) := dk_79 (dk_at dksX1_schedule_0 13 rfl rfl)
theorem dX1_schedule_14 : decode cX1_schedule 14 = .ok (.aload_n 0, 1) := dk_42 (dk_at dksX1_schedule_0 14 rfl rfl)
theorem dX1_schedule_15 : decode cX1_schedule 15 = .ok (.getfield 258, 3) := dk_180 1 2 (dk_at dksX1_schedule_0 15 rfl rfl)
theorem dX1_schedule_18 : decode cX1_schedule 18 = .ok (.iconst 1, 1) := dk_4 (dk_at dksX1_schedule_0 18 rfl rfl)
theorem dX1_schedule_19 : decode cX1_schedule 19 = .ok (.isub, 1) := dk_100 (dk_at dksX1_schedule_0 19 rfl rfl)
theorem dX1_schedule_20 : decode cX1_schedule 20 = .ok (.istore_n 1, 1) := dk_60 (dk_at dksX1_schedule_0 20 rfl rfl)
theorem dX1_schedule_21 : decode cX1_schedule 21 = .ok (.iload_n 1, 1) := dk_27 (dk_at dksX1_schedule_0 21 rfl rfl)
theorem dX1_schedule_22 : decode cX1_schedule 22 = .ok (.ifCond .lt 88, 3) := dk_155 0 88 (dk_at dksX1_schedule_1 0 rfl rfl)
theorem dX1_schedule_25 : decode cX1_schedule 25 = .ok (.iload_n 1, 1) := dk_27 (dk_at dksX1_schedule_1 3 rfl rfl)
theorem dX1_schedule_26 : decode cX1_schedule 26 = .ok (.iconst 1, 1) := dk_4 (dk_at dksX1_schedule_1 4 rfl rfl)
theorem dX1_schedule_27 : decode cX1_schedule 27 = .ok (.iadd, 1) := dk_96 (dk_at dksX1_schedule_1 5 rfl rfl)
theorem dX1_schedule_28 : decode cX1_schedule 28 = .ok (.istore_n 2, 1) := dk_61 (dk_at dksX1_schedule_1 6 rfl rfl)
theorem dX1_schedule_29 : decode cX1_schedule 29 = .ok (.iload_n 2, 1) := dk_28 (dk_at dksX1_schedule_1 7 rfl rfl)
theorem dX1_schedule_30 : decode cX1_schedule 30 = .ok (.aload_n 0, 1) := dk_42 (dk_at dksX1_schedule_1 8 rfl rfl)
theorem dX1_schedule_31 : decode cX1_schedule 31 = .ok (.getfield 258, 3) := dk_180 1 2 (dk_at dksX1_schedule_1 9 rfl rfl)
theorem dX1_schedule_34 : decode cX1_schedule 34 = .ok (.if_icmp .ge 30, 3) := dk_162 0 30 (dk_at dksX1_schedule_1 12 rfl rfl)
theorem dX1_schedule_37 : decode cX1_schedule 37 = .ok (.aload_n 0, 1) := dk_42 (dk_at dksX1_schedule_1 15 rfl rfl)
theorem dX1_schedule_38 : decode cX1_schedule 38 = .ok (.getfield 58, 3) := dk_180 0 58 (dk_at dksX1_schedule_1 16 rfl rfl)
theorem dX1_schedule_41 : decode cX1_schedule 41 = .ok (.iload_n 2, 1) := dk_28 (dk_at dksX1_schedule_1 19 rfl rfl)
theorem dX1_schedule_42 : decode cX1_schedule 42 = .ok (.aaload, 1) := dk_50 (dk_at dksX1_schedule_1 20 rfl rfl)
theorem dX1_schedule_43 : decode cX1_schedule 43 = .ok (.getfield 107, 3) := dk_180 0 107 (dk_at dksX1_schedule_1 21 rfl rfl)
theorem dX1_schedule_46 : decode cX1_schedule 46 = .ok (.aload_n 0, 1) := dk_42 (dk_at dksX1_schedule_2 0 rfl rfl)
theorem dX1_schedule_47 : decode cX1_schedule 47 = .ok (.getfield 58, 3) := dk_180 0 58 (dk_at dksX1_schedule_2 1 rfl rfl)
theorem dX1_schedule_50 : decode cX1_schedule 50 = .ok (.iload_n 1, 1) := dk_27 (dk_at dksX1_schedule_2 4 rfl rfl)
theorem dX1_schedule_51 : decode cX1_schedule 51 = .ok (.aaload, 1) := dk_50 (dk_at dksX1_schedule_2 5 rfl rfl)
theorem dX1_schedule_52 : decode cX1_schedule 52 = .ok (.getfield 110, 3) := dk_180 0 110 (dk_at dksX1_schedule_2 6 rfl rfl)
theorem dX1_schedule_55 : decode cX1_schedule 55 = .ok (.if_icmp .gt 9, 3) := dk_163 0 9 (dk_at dksX1_schedule_2 9 rfl rfl)
theorem dX1_schedule_58 : decode cX1_schedule 58 = .ok (.iinc 2 1, 3) := dk_132 2 1 (dk_at dksX1_schedule_2 12 rfl rfl)
theorem dX1_schedule_61 : decode cX1_schedule 61 = .ok (.goto (-32), 3) := dk_167 255 224 (dk_at dksX1_schedule_2 15 rfl rfl)
theorem dX1_schedule_64 : decode cX1_schedule 64 = .ok (.aload_n 0, 1) := dk_42 (dk_at dksX1_schedule_2 18 rfl rfl)
theorem dX1_schedule_65 : decode cX1_schedule 65 = .ok (.getfield 65, 3) := dk_180 0 65 (dk_at dksX1_schedule_2 19 rfl rfl)
theorem dX1_schedule_68 : decode cX1_schedule 68 = .ok (.iload_n 1, 1) := dk_27 (dk_at dksX1_schedule_2 22 rfl rfl)
theorem dX1_schedule_69 : decode cX1_schedule 69 = .ok (.iload_n 2, 1) := dk_28 (dk_at dksX1_schedule_2 23 rfl rfl)
theorem dX1_schedule_70 : decode cX1_schedule 70 = .ok (.iastore, 1) := dk_79 (dk_at dksX1_schedule_3 0 rfl rfl)
theorem dX1_schedule_71 : decode cX1_schedule 71 = .ok (.aload_n 0, 1) := dk_42 (dk_at dksX1_schedule_3 1 rfl rfl)
theorem dX1_schedule_72 : decode cX1_schedule 72 = .ok (.getfield 61, 3) := dk_180 0 61 (dk_at dksX1_schedule_3 2 rfl rfl)
theorem dX1_schedule_75 : decode cX1_schedule 75 = .ok (.iload_n 1, 1) := dk_27 (dk_at dksX1_schedule_3 5 rfl rfl)
theorem dX1_schedule_76 : decode cX1_schedule 76 = .ok (.aload_n 0, 1) := dk_42 (dk_at dksX1_schedule_3 6 rfl rfl)
theorem dX1_schedule_77 : decode cX1_schedule 77 = .ok (.getfield 61, 3) := dk_180 0 61 (dk_at dksX1_schedule_3 7 rfl rfl)
theorem dX1_schedule_80 : decode cX1_schedule 80 = .ok (.iload_n 1, 1) := dk_27 (dk_at dksX1_schedule_3 10 rfl rfl)
theorem dX1_schedule_81 : decode cX1_schedule 81 = .ok (.iconst 1, 1) := dk_4 (dk_at dksX1_schedule_3 11 rfl rfl)
theorem dX1_schedule_82 : decode cX1_schedule 82 = .ok (.iadd, 1) := dk_96 (dk_at dksX1_schedule_3 12 rfl rfl)
theorem dX1_schedule_83 : decode cX1_schedule 83 = .ok (.iaload, 1) := dk_46 (dk_at dksX1_schedule_3 13 rfl rfl)
theorem dX1_schedule_84 : decode cX1_schedule 84 = .ok (.aload_n 0, 1) := dk_42 (dk_at dksX1_schedule_3 14 rfl rfl)
theorem dX1_schedule_85 : decode cX1_schedule 85 = .ok (.getfield 58, 3) := dk_180 0 58 (dk_at dksX1_schedule_3 15 rfl rfl)
theorem dX1_schedule_88 : decode cX1_schedule 88 = .ok (.iload_n 1, 1) := dk_27 (dk_at dksX1_schedule_3 18 rfl rfl)
theorem dX1_schedule_89 : decode cX1_schedule 89 = .ok (.aaload, 1) := dk_50 (dk_at dksX1_schedule_3 19 rfl rfl)
theorem dX1_schedule_90 : decode cX1_schedule 90 = .ok (.getfield 134, 3) := dk_180 0 134 (dk_at dksX1_schedule_3 20 rfl rfl)
theorem dX1_schedule_93 : decode cX1_schedule 93 = .ok (.aload_n 0, 1) := dk_42 (dk_at dksX1_schedule_3 23 rfl rfl)
theorem dX1_schedule_94 : decode cX1_schedule 94 = .ok (.getfield 61, 3) := dk_180 0 61 (dk_at dksX1_schedule_4 0 rfl rfl)
theorem dX1_schedule_97 : decode cX1_schedule 97 = .ok (.iload_n 2, 1) := dk_28 (dk_at dksX1_schedule_4 3 rfl rfl)
theorem dX1_schedule_98 : decode cX1_schedule 98 = .ok (.iaload, 1) := dk_46 (dk_at dksX1_schedule_4 4 rfl rfl)
theorem dX1_schedule_99 : decode cX1_schedule 99 = .ok (.iadd, 1) := dk_96 (dk_at dksX1_schedule_4 5 rfl rfl)
theorem dX1_schedule_100 : decode cX1_schedule 100 = .ok (.invokestatic 281, 3) := dk_184 1 25 (dk_at dksX1_schedule_4 6 rfl rfl)
theorem dX1_schedule_103 : decode cX1_schedule 103 = .ok (.iastore, 1) := dk_79 (dk_at dksX1_schedule_4 9 rfl rfl)
theorem dX1_schedule_104 : decode cX1_schedule 104 = .ok (.iinc 1 (-1), 3) := dk_132 1 255 (dk_at dksX1_schedule_4 10 rfl rfl)
theorem dX1_schedule_107 : decode cX1_schedule 107 = .ok (.goto (-86), 3) := dk_167 255 170 (dk_at dksX1_schedule_4 13 rfl rfl)
theorem dX1_schedule_110 : decode cX1_schedule 110 = .ok (.return_, 1) := dk_177 (dk_at dksX1_schedule_4 16 rfl rfl)
abbrev cX1_save : ByteArray := prog_1_method_99_code
def yX1_save : MethodName := ⟨RX1, "save", "()I"⟩
def dkwX1_save_3 : List UInt8 := [182, 1, 103, 172]
abbrev dktX1_save_3 : List UInt8 := dkwX1_save_3 ++ []
def dkwX1_save_2 : List UInt8 := [180, 0, 97, 181, 1, 227, 42, 42, 180, 1, 16, 181, 1, 230, 42, 42, 180, 1, 19, 181, 1, 233, 42]
abbrev dktX1_save_2 : List UInt8 := dkwX1_save_2 ++ dktX1_save_3
def dkwX1_save_1 : List UInt8 := [182, 0, 249, 42, 42, 180, 0, 173, 184, 1, 34, 181, 1, 224, 42, 42, 180, 0, 113, 181, 0, 94, 42, 42]
abbrev dktX1_save_1 : List UInt8 := dkwX1_save_1 ++ dktX1_save_2
def dkwX1_save_0 : List UInt8 := [42, 42, 180, 0, 173, 186, 1, 220, 0, 0, 182, 0, 249, 42, 42, 180, 0, 173, 42, 186, 1, 223, 0, 0]
abbrev dktX1_save_0 : List UInt8 := dkwX1_save_0 ++ dktX1_save_1
theorem dksX1_save_0 : cX1_save.data.toList.drop 0 = dktX1_save_0 := by decide +kernel
theorem dksX1_save_1 : cX1_save.data.toList.drop 24 = dktX1_save_1 := dk_seg dksX1_save_0 24 rfl rfl
theorem dksX1_save_2 : cX1_save.data.toList.drop 48 = dktX1_save_2 := dk_seg dksX1_save_1 24 rfl rfl
theorem dksX1_save_3 : cX1_save.data.toList.drop 71 = dktX1_save_3 := dk_seg dksX1_save_2 23 rfl rfl
theorem dX1_save_0 : decode cX1_save 0 = .ok (.aload_n 0, 1) := dk_42 (dk_at dksX1_save_0 0 rfl rfl)
theorem dX1_save_1 : decode cX1_save 1 = .ok (.aload_n 0, 1) := dk_42 (dk_at dksX1_save_0 1 rfl rfl)
theorem dX1_save_2 : decode cX1_save 2 = .ok (.getfield 173, 3) := dk_180 0 173 (dk_at dksX1_save_0 2 rfl rfl)
theorem dX1_save_5 : decode cX1_save 5 = .ok (.invokedynamic 476, 5) := by decide +kernel
theorem dX1_save_10 : decode cX1_save 10 = .ok (.invokevirtual 249, 3) := dk_182 0 249 (dk_at dksX1_save_0 10 rfl rfl)
theorem dX1_save_13 : decode cX1_save 13 = .ok (.aload_n 0, 1) := dk_42 (dk_at dksX1_save_0 13 rfl rfl)
theorem dX1_save_14 : decode cX1_save 14 = .ok (.aload_n 0, 1) := dk_42 (dk_at dksX1_save_0 14 rfl rfl)
theorem dX1_save_15 : decode cX1_save 15 = .ok (.getfield 173, 3) := dk_180 0 173 (dk_at dksX1_save_0 15 rfl rfl)
theorem dX1_save_18 : decode cX1_save 18 = .ok (.aload_n 0, 1) := dk_42 (dk_at dksX1_save_0 18 rfl rfl)
theorem dX1_save_19 : decode cX1_save 19 = .ok (.invokedynamic 479, 5) := by decide +kernel
theorem dX1_save_24 : decode cX1_save 24 = .ok (.invokevirtual 249, 3) := dk_182 0 249 (dk_at dksX1_save_1 0 rfl rfl)
theorem dX1_save_27 : decode cX1_save 27 = .ok (.aload_n 0, 1) := dk_42 (dk_at dksX1_save_1 3 rfl rfl)
theorem dX1_save_28 : decode cX1_save 28 = .ok (.aload_n 0, 1) := dk_42 (dk_at dksX1_save_1 4 rfl rfl)
theorem dX1_save_29 : decode cX1_save 29 = .ok (.getfield 173, 3) := dk_180 0 173 (dk_at dksX1_save_1 5 rfl rfl)
theorem dX1_save_32 : decode cX1_save 32 = .ok (.invokestatic 290, 3) := dk_184 1 34 (dk_at dksX1_save_1 8 rfl rfl)
theorem dX1_save_35 : decode cX1_save 35 = .ok (.putfield 480, 3) := dk_181 1 224 (dk_at dksX1_save_1 11 rfl rfl)
theorem dX1_save_38 : decode cX1_save 38 = .ok (.aload_n 0, 1) := dk_42 (dk_at dksX1_save_1 14 rfl rfl)
theorem dX1_save_39 : decode cX1_save 39 = .ok (.aload_n 0, 1) := dk_42 (dk_at dksX1_save_1 15 rfl rfl)
theorem dX1_save_40 : decode cX1_save 40 = .ok (.getfield 113, 3) := dk_180 0 113 (dk_at dksX1_save_1 16 rfl rfl)
theorem dX1_save_43 : decode cX1_save 43 = .ok (.putfield 94, 3) := dk_181 0 94 (dk_at dksX1_save_1 19 rfl rfl)
theorem dX1_save_46 : decode cX1_save 46 = .ok (.aload_n 0, 1) := dk_42 (dk_at dksX1_save_1 22 rfl rfl)
theorem dX1_save_47 : decode cX1_save 47 = .ok (.aload_n 0, 1) := dk_42 (dk_at dksX1_save_1 23 rfl rfl)
theorem dX1_save_48 : decode cX1_save 48 = .ok (.getfield 97, 3) := dk_180 0 97 (dk_at dksX1_save_2 0 rfl rfl)
theorem dX1_save_51 : decode cX1_save 51 = .ok (.putfield 483, 3) := dk_181 1 227 (dk_at dksX1_save_2 3 rfl rfl)
theorem dX1_save_54 : decode cX1_save 54 = .ok (.aload_n 0, 1) := dk_42 (dk_at dksX1_save_2 6 rfl rfl)
theorem dX1_save_55 : decode cX1_save 55 = .ok (.aload_n 0, 1) := dk_42 (dk_at dksX1_save_2 7 rfl rfl)
theorem dX1_save_56 : decode cX1_save 56 = .ok (.getfield 272, 3) := dk_180 1 16 (dk_at dksX1_save_2 8 rfl rfl)
theorem dX1_save_59 : decode cX1_save 59 = .ok (.putfield 486, 3) := dk_181 1 230 (dk_at dksX1_save_2 11 rfl rfl)
theorem dX1_save_62 : decode cX1_save 62 = .ok (.aload_n 0, 1) := dk_42 (dk_at dksX1_save_2 14 rfl rfl)
theorem dX1_save_63 : decode cX1_save 63 = .ok (.aload_n 0, 1) := dk_42 (dk_at dksX1_save_2 15 rfl rfl)
theorem dX1_save_64 : decode cX1_save 64 = .ok (.getfield 275, 3) := dk_180 1 19 (dk_at dksX1_save_2 16 rfl rfl)
theorem dX1_save_67 : decode cX1_save 67 = .ok (.putfield 489, 3) := dk_181 1 233 (dk_at dksX1_save_2 19 rfl rfl)
theorem dX1_save_70 : decode cX1_save 70 = .ok (.aload_n 0, 1) := dk_42 (dk_at dksX1_save_2 22 rfl rfl)
theorem dX1_save_71 : decode cX1_save 71 = .ok (.invokevirtual 359, 3) := dk_182 1 103 (dk_at dksX1_save_3 0 rfl rfl)
theorem dX1_save_74 : decode cX1_save 74 = .ok (.ireturn, 1) := dk_172 (dk_at dksX1_save_3 3 rfl rfl)
abbrev cX1_lambda_save_12 : ByteArray := prog_1_method_102_code
def yX1_lambda_save_12 : MethodName := ⟨RX1, "lambda$save$12", "(LIntervalTree$Node;)V"⟩
theorem dX1_lambda_save_12_0 : decode cX1_lambda_save_12 0 = .ok (.aload_n 0, 1) := by decide +kernel
theorem dX1_lambda_save_12_1 : decode cX1_lambda_save_12 1 = .ok (.invokevirtual 148, 3) := by decide +kernel
theorem dX1_lambda_save_12_4 : decode cX1_lambda_save_12 4 = .ok (.return_, 1) := by decide +kernel
abbrev cX1_saveNode : ByteArray := prog_1_method_98_code
def yX1_saveNode : MethodName := ⟨RX1, "saveNode", "(LIntervalTree$Node;)V"⟩
def dkwX1_saveNode_3 : List UInt8 := [180, 0, 91, 28, 43, 180, 0, 129, 84, 177]
abbrev dktX1_saveNode_3 : List UInt8 := dkwX1_saveNode_3 ++ []
def dkwX1_saveNode_2 : List UInt8 := [42, 180, 0, 84, 28, 43, 180, 0, 170, 184, 1, 34, 79, 42, 180, 0, 87, 28, 43, 180, 0, 191, 84, 42]
abbrev dktX1_saveNode_2 : List UInt8 := dkwX1_saveNode_2 ++ dktX1_saveNode_3
def dkwX1_saveNode_1 : List UInt8 := [79, 42, 180, 0, 78, 28, 43, 180, 0, 134, 79, 42, 180, 0, 81, 28, 43, 180, 0, 163, 184, 1, 34, 79]
abbrev dktX1_saveNode_1 : List UInt8 := dkwX1_saveNode_1 ++ dktX1_saveNode_2
def dkwX1_saveNode_0 : List UInt8 := [43, 180, 0, 231, 61, 42, 180, 0, 72, 28, 43, 180, 0, 107, 79, 42, 180, 0, 75, 28, 43, 180, 0, 110]
abbrev dktX1_saveNode_0 : List UInt8 := dkwX1_saveNode_0 ++ dktX1_saveNode_1
theorem dksX1_saveNode_0 : cX1_saveNode.data.toList.drop 0 = dktX1_saveNode_0 := by decide +kernel
theorem dksX1_saveNode_1 : cX1_saveNode.data.toList.drop 24 = dktX1_saveNode_1 := dk_seg dksX1_saveNode_0 24 rfl rfl
theorem dksX1_saveNode_2 : cX1_saveNode.data.toList.drop 48 = dktX1_saveNode_2 := dk_seg dksX1_saveNode_1 24 rfl rfl
theorem dksX1_saveNode_3 : cX1_saveNode.data.toList.drop 72 = dktX1_saveNode_3 := dk_seg dksX1_saveNode_2 24 rfl rfl
theorem dX1_saveNode_0 : decode cX1_saveNode 0 = .ok (.aload_n 1, 1) := dk_43 (dk_at dksX1_saveNode_0 0 rfl rfl)
theorem dX1_saveNode_1 : decode cX1_saveNode 1 = .ok (.getfield 231, 3) := dk_180 0 231 (dk_at dksX1_saveNode_0 1 rfl rfl)
theorem dX1_saveNode_4 : decode cX1_saveNode 4 = .ok (.istore_n 2, 1) := dk_61 (dk_at dksX1_saveNode_0 4 rfl rfl)
theorem dX1_saveNode_5 : decode cX1_saveNode 5 = .ok (.aload_n 0, 1) := dk_42 (dk_at dksX1_saveNode_0 5 rfl rfl)
theorem dX1_saveNode_6 : decode cX1_saveNode 6 = .ok (.getfield 72, 3) := dk_180 0 72 (dk_at dksX1_saveNode_0 6 rfl rfl)
theorem dX1_saveNode_9 : decode cX1_saveNode 9 = .ok (.iload_n 2, 1) := dk_28 (dk_at dksX1_saveNode_0 9 rfl rfl)
theorem dX1_saveNode_10 : decode cX1_saveNode 10 = .ok (.aload_n 1, 1) := dk_43 (dk_at dksX1_saveNode_0 10 rfl rfl)
theorem dX1_saveNode_11 : decode cX1_saveNode 11 = .ok (.getfield 107, 3) := dk_180 0 107 (dk_at dksX1_saveNode_0 11 rfl rfl)
theorem dX1_saveNode_14 : decode cX1_saveNode 14 = .ok (.iastore, 1) := dk_79 (dk_at dksX1_saveNode_0 14 rfl rfl)
theorem dX1_saveNode_15 : decode cX1_saveNode 15 = .ok (.aload_n 0, 1) := dk_42 (dk_at dksX1_saveNode_0 15 rfl rfl)
theorem dX1_saveNode_16 : decode cX1_saveNode 16 = .ok (.getfield 75, 3) := dk_180 0 75 (dk_at dksX1_saveNode_0 16 rfl rfl)
theorem dX1_saveNode_19 : decode cX1_saveNode 19 = .ok (.iload_n 2, 1) := dk_28 (dk_at dksX1_saveNode_0 19 rfl rfl)
theorem dX1_saveNode_20 : decode cX1_saveNode 20 = .ok (.aload_n 1, 1) := dk_43 (dk_at dksX1_saveNode_0 20 rfl rfl)
theorem dX1_saveNode_21 : decode cX1_saveNode 21 = .ok (.getfield 110, 3) := dk_180 0 110 (dk_at dksX1_saveNode_0 21 rfl rfl)
theorem dX1_saveNode_24 : decode cX1_saveNode 24 = .ok (.iastore, 1) := dk_79 (dk_at dksX1_saveNode_1 0 rfl rfl)
theorem dX1_saveNode_25 : decode cX1_saveNode 25 = .ok (.aload_n 0, 1) := dk_42 (dk_at dksX1_saveNode_1 1 rfl rfl)
theorem dX1_saveNode_26 : decode cX1_saveNode 26 = .ok (.getfield 78, 3) := dk_180 0 78 (dk_at dksX1_saveNode_1 2 rfl rfl)
theorem dX1_saveNode_29 : decode cX1_saveNode 29 = .ok (.iload_n 2, 1) := dk_28 (dk_at dksX1_saveNode_1 5 rfl rfl)
theorem dX1_saveNode_30 : decode cX1_saveNode 30 = .ok (.aload_n 1, 1) := dk_43 (dk_at dksX1_saveNode_1 6 rfl rfl)
theorem dX1_saveNode_31 : decode cX1_saveNode 31 = .ok (.getfield 134, 3) := dk_180 0 134 (dk_at dksX1_saveNode_1 7 rfl rfl)
theorem dX1_saveNode_34 : decode cX1_saveNode 34 = .ok (.iastore, 1) := dk_79 (dk_at dksX1_saveNode_1 10 rfl rfl)
theorem dX1_saveNode_35 : decode cX1_saveNode 35 = .ok (.aload_n 0, 1) := dk_42 (dk_at dksX1_saveNode_1 11 rfl rfl)
theorem dX1_saveNode_36 : decode cX1_saveNode 36 = .ok (.getfield 81, 3) := dk_180 0 81 (dk_at dksX1_saveNode_1 12 rfl rfl)
theorem dX1_saveNode_39 : decode cX1_saveNode 39 = .ok (.iload_n 2, 1) := dk_28 (dk_at dksX1_saveNode_1 15 rfl rfl)
theorem dX1_saveNode_40 : decode cX1_saveNode 40 = .ok (.aload_n 1, 1) := dk_43 (dk_at dksX1_saveNode_1 16 rfl rfl)
theorem dX1_saveNode_41 : decode cX1_saveNode 41 = .ok (.getfield 163, 3) := dk_180 0 163 (dk_at dksX1_saveNode_1 17 rfl rfl)
theorem dX1_saveNode_44 : decode cX1_saveNode 44 = .ok (.invokestatic 290, 3) := dk_184 1 34 (dk_at dksX1_saveNode_1 20 rfl rfl)
theorem dX1_saveNode_47 : decode cX1_saveNode 47 = .ok (.iastore, 1) := dk_79 (dk_at dksX1_saveNode_1 23 rfl rfl)
theorem dX1_saveNode_48 : decode cX1_saveNode 48 = .ok (.aload_n 0, 1) := dk_42 (dk_at dksX1_saveNode_2 0 rfl rfl)
theorem dX1_saveNode_49 : decode cX1_saveNode 49 = .ok (.getfield 84, 3) := dk_180 0 84 (dk_at dksX1_saveNode_2 1 rfl rfl)
theorem dX1_saveNode_52 : decode cX1_saveNode 52 = .ok (.iload_n 2, 1) := dk_28 (dk_at dksX1_saveNode_2 4 rfl rfl)
theorem dX1_saveNode_53 : decode cX1_saveNode 53 = .ok (.aload_n 1, 1) := dk_43 (dk_at dksX1_saveNode_2 5 rfl rfl)
theorem dX1_saveNode_54 : decode cX1_saveNode 54 = .ok (.getfield 170, 3) := dk_180 0 170 (dk_at dksX1_saveNode_2 6 rfl rfl)
theorem dX1_saveNode_57 : decode cX1_saveNode 57 = .ok (.invokestatic 290, 3) := dk_184 1 34 (dk_at dksX1_saveNode_2 9 rfl rfl)
theorem dX1_saveNode_60 : decode cX1_saveNode 60 = .ok (.iastore, 1) := dk_79 (dk_at dksX1_saveNode_2 12 rfl rfl)
theorem dX1_saveNode_61 : decode cX1_saveNode 61 = .ok (.aload_n 0, 1) := dk_42 (dk_at dksX1_saveNode_2 13 rfl rfl)
theorem dX1_saveNode_62 : decode cX1_saveNode 62 = .ok (.getfield 87, 3) := dk_180 0 87 (dk_at dksX1_saveNode_2 14 rfl rfl)
theorem dX1_saveNode_65 : decode cX1_saveNode 65 = .ok (.iload_n 2, 1) := dk_28 (dk_at dksX1_saveNode_2 17 rfl rfl)
theorem dX1_saveNode_66 : decode cX1_saveNode 66 = .ok (.aload_n 1, 1) := dk_43 (dk_at dksX1_saveNode_2 18 rfl rfl)
theorem dX1_saveNode_67 : decode cX1_saveNode 67 = .ok (.getfield 191, 3) := dk_180 0 191 (dk_at dksX1_saveNode_2 19 rfl rfl)
theorem dX1_saveNode_70 : decode cX1_saveNode 70 = .ok (.bastore, 1) := dk_84 (dk_at dksX1_saveNode_2 22 rfl rfl)
theorem dX1_saveNode_71 : decode cX1_saveNode 71 = .ok (.aload_n 0, 1) := dk_42 (dk_at dksX1_saveNode_2 23 rfl rfl)
theorem dX1_saveNode_72 : decode cX1_saveNode 72 = .ok (.getfield 91, 3) := dk_180 0 91 (dk_at dksX1_saveNode_3 0 rfl rfl)
theorem dX1_saveNode_75 : decode cX1_saveNode 75 = .ok (.iload_n 2, 1) := dk_28 (dk_at dksX1_saveNode_3 3 rfl rfl)
theorem dX1_saveNode_76 : decode cX1_saveNode 76 = .ok (.aload_n 1, 1) := dk_43 (dk_at dksX1_saveNode_3 4 rfl rfl)
theorem dX1_saveNode_77 : decode cX1_saveNode 77 = .ok (.getfield 129, 3) := dk_180 0 129 (dk_at dksX1_saveNode_3 5 rfl rfl)
theorem dX1_saveNode_80 : decode cX1_saveNode 80 = .ok (.bastore, 1) := dk_84 (dk_at dksX1_saveNode_3 8 rfl rfl)
theorem dX1_saveNode_81 : decode cX1_saveNode 81 = .ok (.return_, 1) := dk_177 (dk_at dksX1_saveNode_3 9 rfl rfl)
abbrev cX1_insert : ByteArray := prog_1_method_19_code
def yX1_insert : MethodName := ⟨RX1, "insert", "(III)I"⟩
def dkwX1_insert_6 : List UInt8 := [25, 4, 182, 0, 228, 25, 4, 180, 0, 231, 172]
abbrev dktX1_insert_6 : List UInt8 := dkwX1_insert_6 ++ []
def dkwX1_insert_5 : List UInt8 := [25, 4, 83, 42, 89, 180, 0, 113, 4, 96, 181, 0, 113, 42, 89, 180, 0, 210, 4, 96, 181, 0, 210, 42]
abbrev dktX1_insert_5 : List UInt8 := dkwX1_insert_5 ++ dktX1_insert_6
def dkwX1_insert_4 : List UInt8 := [187, 0, 12, 89, 42, 180, 0, 113, 27, 28, 29, 183, 0, 225, 58, 4, 42, 180, 0, 14, 42, 180, 0, 113]
abbrev dktX1_insert_4 : List UInt8 := dkwX1_insert_4 ++ dktX1_insert_5
def dkwX1_insert_3 : List UInt8 := [187, 0, 216, 89, 18, 218, 183, 0, 220, 191, 42, 180, 0, 210, 16, 100, 160, 0, 8, 42, 182, 0, 221, 87]
abbrev dktX1_insert_3 : List UInt8 := dkwX1_insert_3 ++ dktX1_insert_4
def dkwX1_insert_2 : List UInt8 := [16, 100, 160, 0, 10, 42, 180, 0, 213, 153, 0, 13, 42, 180, 0, 113, 17, 1, 244, 160, 0, 13]
abbrev dktX1_insert_2 : List UInt8 := dkwX1_insert_2 ++ dktX1_insert_3
def dkwX1_insert_1 : List UInt8 := [29, 3, 17, 3, 231, 184, 0, 116, 153, 0, 7, 4, 167, 0, 4, 3, 184, 0, 179, 42, 180, 0, 210]
abbrev dktX1_insert_1 : List UInt8 := dkwX1_insert_1 ++ dktX1_insert_2
def dkwX1_insert_0 : List UInt8 := [27, 17, 252, 24, 17, 3, 232, 184, 0, 116, 153, 0, 29, 28, 27, 17, 3, 232, 184, 0, 116, 153, 0, 18]
abbrev dktX1_insert_0 : List UInt8 := dkwX1_insert_0 ++ dktX1_insert_1
theorem dksX1_insert_0 : cX1_insert.data.toList.drop 0 = dktX1_insert_0 := by decide +kernel
theorem dksX1_insert_1 : cX1_insert.data.toList.drop 24 = dktX1_insert_1 := dk_seg dksX1_insert_0 24 rfl rfl
theorem dksX1_insert_2 : cX1_insert.data.toList.drop 47 = dktX1_insert_2 := dk_seg dksX1_insert_1 23 rfl rfl
theorem dksX1_insert_3 : cX1_insert.data.toList.drop 69 = dktX1_insert_3 := dk_seg dksX1_insert_2 22 rfl rfl
theorem dksX1_insert_4 : cX1_insert.data.toList.drop 93 = dktX1_insert_4 := dk_seg dksX1_insert_3 24 rfl rfl
theorem dksX1_insert_5 : cX1_insert.data.toList.drop 117 = dktX1_insert_5 := dk_seg dksX1_insert_4 24 rfl rfl
theorem dksX1_insert_6 : cX1_insert.data.toList.drop 141 = dktX1_insert_6 := dk_seg dksX1_insert_5 24 rfl rfl
theorem dX1_insert_0 : decode cX1_insert 0 = .ok (.iload_n 1, 1) := dk_27 (dk_at dksX1_insert_0 0 rfl rfl)
theorem dX1_insert_1 : decode cX1_insert 1 = .ok (.sipush (-1000), 3) := dk_17 252 24 (dk_at dksX1_insert_0 1 rfl rfl)
theorem dX1_insert_4 : decode cX1_insert 4 = .ok (.sipush 1000, 3) := dk_17 3 232 (dk_at dksX1_insert_0 4 rfl rfl)
theorem dX1_insert_7 : decode cX1_insert 7 = .ok (.invokestatic 116, 3) := dk_184 0 116 (dk_at dksX1_insert_0 7 rfl rfl)
theorem dX1_insert_10 : decode cX1_insert 10 = .ok (.ifCond .eq 29, 3) := dk_153 0 29 (dk_at dksX1_insert_0 10 rfl rfl)
theorem dX1_insert_13 : decode cX1_insert 13 = .ok (.iload_n 2, 1) := dk_28 (dk_at dksX1_insert_0 13 rfl rfl)
theorem dX1_insert_14 : decode cX1_insert 14 = .ok (.iload_n 1, 1) := dk_27 (dk_at dksX1_insert_0 14 rfl rfl)
theorem dX1_insert_15 : decode cX1_insert 15 = .ok (.sipush 1000, 3) := dk_17 3 232 (dk_at dksX1_insert_0 15 rfl rfl)
theorem dX1_insert_18 : decode cX1_insert 18 = .ok (.invokestatic 116, 3) := dk_184 0 116 (dk_at dksX1_insert_0 18 rfl rfl)
theorem dX1_insert_21 : decode cX1_insert 21 = .ok (.ifCond .eq 18, 3) := dk_153 0 18 (dk_at dksX1_insert_0 21 rfl rfl)
theorem dX1_insert_24 : decode cX1_insert 24 = .ok (.iload_n 3, 1) := dk_29 (dk_at dksX1_insert_1 0 rfl rfl)
theorem dX1_insert_25 : decode cX1_insert 25 = .ok (.iconst 0, 1) := dk_3 (dk_at dksX1_insert_1 1 rfl rfl)
theorem dX1_insert_26 : decode cX1_insert 26 = .ok (.sipush 999, 3) := dk_17 3 231 (dk_at dksX1_insert_1 2 rfl rfl)
theorem dX1_insert_29 : decode cX1_insert 29 = .ok (.invokestatic 116, 3) := dk_184 0 116 (dk_at dksX1_insert_1 5 rfl rfl)
theorem dX1_insert_32 : decode cX1_insert 32 = .ok (.ifCond .eq 7, 3) := dk_153 0 7 (dk_at dksX1_insert_1 8 rfl rfl)
theorem dX1_insert_35 : decode cX1_insert 35 = .ok (.iconst 1, 1) := dk_4 (dk_at dksX1_insert_1 11 rfl rfl)
theorem dX1_insert_36 : decode cX1_insert 36 = .ok (.goto 4, 3) := dk_167 0 4 (dk_at dksX1_insert_1 12 rfl rfl)
theorem dX1_insert_39 : decode cX1_insert 39 = .ok (.iconst 0, 1) := dk_3 (dk_at dksX1_insert_1 15 rfl rfl)
theorem dX1_insert_40 : decode cX1_insert 40 = .ok (.invokestatic 179, 3) := dk_184 0 179 (dk_at dksX1_insert_1 16 rfl rfl)
theorem dX1_insert_43 : decode cX1_insert 43 = .ok (.aload_n 0, 1) := dk_42 (dk_at dksX1_insert_1 19 rfl rfl)
theorem dX1_insert_44 : decode cX1_insert 44 = .ok (.getfield 210, 3) := dk_180 0 210 (dk_at dksX1_insert_1 20 rfl rfl)
theorem dX1_insert_47 : decode cX1_insert 47 = .ok (.bipush 100, 2) := dk_16 100 (dk_at dksX1_insert_2 0 rfl rfl)
theorem dX1_insert_49 : decode cX1_insert 49 = .ok (.if_icmp .ne 10, 3) := dk_160 0 10 (dk_at dksX1_insert_2 2 rfl rfl)
theorem dX1_insert_52 : decode cX1_insert 52 = .ok (.aload_n 0, 1) := dk_42 (dk_at dksX1_insert_2 5 rfl rfl)
theorem dX1_insert_53 : decode cX1_insert 53 = .ok (.getfield 213, 3) := dk_180 0 213 (dk_at dksX1_insert_2 6 rfl rfl)
theorem dX1_insert_56 : decode cX1_insert 56 = .ok (.ifCond .eq 13, 3) := dk_153 0 13 (dk_at dksX1_insert_2 9 rfl rfl)
theorem dX1_insert_59 : decode cX1_insert 59 = .ok (.aload_n 0, 1) := dk_42 (dk_at dksX1_insert_2 12 rfl rfl)
theorem dX1_insert_60 : decode cX1_insert 60 = .ok (.getfield 113, 3) := dk_180 0 113 (dk_at dksX1_insert_2 13 rfl rfl)
theorem dX1_insert_63 : decode cX1_insert 63 = .ok (.sipush 500, 3) := dk_17 1 244 (dk_at dksX1_insert_2 16 rfl rfl)
theorem dX1_insert_66 : decode cX1_insert 66 = .ok (.if_icmp .ne 13, 3) := dk_160 0 13 (dk_at dksX1_insert_2 19 rfl rfl)
theorem dX1_insert_69 : decode cX1_insert 69 = .ok (.new 216, 3) := dk_187 0 216 (dk_at dksX1_insert_3 0 rfl rfl)
theorem dX1_insert_72 : decode cX1_insert 72 = .ok (.dup, 1) := dk_89 (dk_at dksX1_insert_3 3 rfl rfl)
theorem dX1_insert_73 : decode cX1_insert 73 = .ok (.ldc 218, 2) := dk_18 218 (dk_at dksX1_insert_3 4 rfl rfl)
theorem dX1_insert_75 : decode cX1_insert 75 = .ok (.invokespecial 220, 3) := dk_183 0 220 (dk_at dksX1_insert_3 6 rfl rfl)
theorem dX1_insert_78 : decode cX1_insert 78 = .ok (.athrow, 1) := dk_191 (dk_at dksX1_insert_3 9 rfl rfl)
theorem dX1_insert_79 : decode cX1_insert 79 = .ok (.aload_n 0, 1) := dk_42 (dk_at dksX1_insert_3 10 rfl rfl)
theorem dX1_insert_80 : decode cX1_insert 80 = .ok (.getfield 210, 3) := dk_180 0 210 (dk_at dksX1_insert_3 11 rfl rfl)
theorem dX1_insert_83 : decode cX1_insert 83 = .ok (.bipush 100, 2) := dk_16 100 (dk_at dksX1_insert_3 14 rfl rfl)
theorem dX1_insert_85 : decode cX1_insert 85 = .ok (.if_icmp .ne 8, 3) := dk_160 0 8 (dk_at dksX1_insert_3 16 rfl rfl)
theorem dX1_insert_88 : decode cX1_insert 88 = .ok (.aload_n 0, 1) := dk_42 (dk_at dksX1_insert_3 19 rfl rfl)
theorem dX1_insert_89 : decode cX1_insert 89 = .ok (.invokevirtual 221, 3) := dk_182 0 221 (dk_at dksX1_insert_3 20 rfl rfl)
theorem dX1_insert_92 : decode cX1_insert 92 = .ok (.pop, 1) := dk_87 (dk_at dksX1_insert_3 23 rfl rfl)
theorem dX1_insert_93 : decode cX1_insert 93 = .ok (.new 12, 3) := dk_187 0 12 (dk_at dksX1_insert_4 0 rfl rfl)
theorem dX1_insert_96 : decode cX1_insert 96 = .ok (.dup, 1) := dk_89 (dk_at dksX1_insert_4 3 rfl rfl)
theorem dX1_insert_97 : decode cX1_insert 97 = .ok (.aload_n 0, 1) := dk_42 (dk_at dksX1_insert_4 4 rfl rfl)
theorem dX1_insert_98 : decode cX1_insert 98 = .ok (.getfield 113, 3) := dk_180 0 113 (dk_at dksX1_insert_4 5 rfl rfl)
theorem dX1_insert_101 : decode cX1_insert 101 = .ok (.iload_n 1, 1) := dk_27 (dk_at dksX1_insert_4 8 rfl rfl)
theorem dX1_insert_102 : decode cX1_insert 102 = .ok (.iload_n 2, 1) := dk_28 (dk_at dksX1_insert_4 9 rfl rfl)
theorem dX1_insert_103 : decode cX1_insert 103 = .ok (.iload_n 3, 1) := dk_29 (dk_at dksX1_insert_4 10 rfl rfl)
theorem dX1_insert_104 : decode cX1_insert 104 = .ok (.invokespecial 225, 3) := dk_183 0 225 (dk_at dksX1_insert_4 11 rfl rfl)
theorem dX1_insert_107 : decode cX1_insert 107 = .ok (.astore 4, 2) := dk_58 4 (dk_at dksX1_insert_4 14 rfl rfl)
theorem dX1_insert_109 : decode cX1_insert 109 = .ok (.aload_n 0, 1) := dk_42 (dk_at dksX1_insert_4 16 rfl rfl)
theorem dX1_insert_110 : decode cX1_insert 110 = .ok (.getfield 14, 3) := dk_180 0 14 (dk_at dksX1_insert_4 17 rfl rfl)
theorem dX1_insert_113 : decode cX1_insert 113 = .ok (.aload_n 0, 1) := dk_42 (dk_at dksX1_insert_4 20 rfl rfl)
theorem dX1_insert_114 : decode cX1_insert 114 = .ok (.getfield 113, 3) := dk_180 0 113 (dk_at dksX1_insert_4 21 rfl rfl)
theorem dX1_insert_117 : decode cX1_insert 117 = .ok (.aload 4, 2) := dk_25 4 (dk_at dksX1_insert_5 0 rfl rfl)
theorem dX1_insert_119 : decode cX1_insert 119 = .ok (.aastore, 1) := dk_83 (dk_at dksX1_insert_5 2 rfl rfl)
theorem dX1_insert_120 : decode cX1_insert 120 = .ok (.aload_n 0, 1) := dk_42 (dk_at dksX1_insert_5 3 rfl rfl)
theorem dX1_insert_121 : decode cX1_insert 121 = .ok (.dup, 1) := dk_89 (dk_at dksX1_insert_5 4 rfl rfl)
theorem dX1_insert_122 : decode cX1_insert 122 = .ok (.getfield 113, 3) := dk_180 0 113 (dk_at dksX1_insert_5 5 rfl rfl)
theorem dX1_insert_125 : decode cX1_insert 125 = .ok (.iconst 1, 1) := dk_4 (dk_at dksX1_insert_5 8 rfl rfl)
theorem dX1_insert_126 : decode cX1_insert 126 = .ok (.iadd, 1) := dk_96 (dk_at dksX1_insert_5 9 rfl rfl)
theorem dX1_insert_127 : decode cX1_insert 127 = .ok (.putfield 113, 3) := dk_181 0 113 (dk_at dksX1_insert_5 10 rfl rfl)
theorem dX1_insert_130 : decode cX1_insert 130 = .ok (.aload_n 0, 1) := dk_42 (dk_at dksX1_insert_5 13 rfl rfl)
theorem dX1_insert_131 : decode cX1_insert 131 = .ok (.dup, 1) := dk_89 (dk_at dksX1_insert_5 14 rfl rfl)
theorem dX1_insert_132 : decode cX1_insert 132 = .ok (.getfield 210, 3) := dk_180 0 210 (dk_at dksX1_insert_5 15 rfl rfl)
theorem dX1_insert_135 : decode cX1_insert 135 = .ok (.iconst 1, 1) := dk_4 (dk_at dksX1_insert_5 18 rfl rfl)
theorem dX1_insert_136 : decode cX1_insert 136 = .ok (.iadd, 1) := dk_96 (dk_at dksX1_insert_5 19 rfl rfl)
theorem dX1_insert_137 : decode cX1_insert 137 = .ok (.putfield 210, 3) := dk_181 0 210 (dk_at dksX1_insert_5 20 rfl rfl)
theorem dX1_insert_140 : decode cX1_insert 140 = .ok (.aload_n 0, 1) := dk_42 (dk_at dksX1_insert_5 23 rfl rfl)
theorem dX1_insert_141 : decode cX1_insert 141 = .ok (.aload 4, 2) := dk_25 4 (dk_at dksX1_insert_6 0 rfl rfl)
theorem dX1_insert_143 : decode cX1_insert 143 = .ok (.invokevirtual 228, 3) := dk_182 0 228 (dk_at dksX1_insert_6 2 rfl rfl)
theorem dX1_insert_146 : decode cX1_insert 146 = .ok (.aload 4, 2) := dk_25 4 (dk_at dksX1_insert_6 5 rfl rfl)
theorem dX1_insert_148 : decode cX1_insert 148 = .ok (.getfield 231, 3) := dk_180 0 231 (dk_at dksX1_insert_6 7 rfl rfl)
theorem dX1_insert_151 : decode cX1_insert 151 = .ok (.ireturn, 1) := dk_172 (dk_at dksX1_insert_6 10 rfl rfl)
abbrev cX1_isBetween : ByteArray := prog_1_method_3_code
def yX1_isBetween : MethodName := ⟨RX1, "isBetween", "(III)Z"⟩
def dkwX1_isBetween_0 : List UInt8 := [26, 27, 161, 0, 12, 26, 28, 163, 0, 7, 4, 167, 0, 4, 3, 172]
abbrev dktX1_isBetween_0 : List UInt8 := dkwX1_isBetween_0 ++ []
theorem dksX1_isBetween_0 : cX1_isBetween.data.toList.drop 0 = dktX1_isBetween_0 := by decide +kernel
theorem dX1_isBetween_0 : decode cX1_isBetween 0 = .ok (.iload_n 0, 1) := dk_26 (dk_at dksX1_isBetween_0 0 rfl rfl)
theorem dX1_isBetween_1 : decode cX1_isBetween 1 = .ok (.iload_n 1, 1) := dk_27 (dk_at dksX1_isBetween_0 1 rfl rfl)
theorem dX1_isBetween_2 : decode cX1_isBetween 2 = .ok (.if_icmp .lt 12, 3) := dk_161 0 12 (dk_at dksX1_isBetween_0 2 rfl rfl)
theorem dX1_isBetween_5 : decode cX1_isBetween 5 = .ok (.iload_n 0, 1) := dk_26 (dk_at dksX1_isBetween_0 5 rfl rfl)
theorem dX1_isBetween_6 : decode cX1_isBetween 6 = .ok (.iload_n 2, 1) := dk_28 (dk_at dksX1_isBetween_0 6 rfl rfl)
theorem dX1_isBetween_7 : decode cX1_isBetween 7 = .ok (.if_icmp .gt 7, 3) := dk_163 0 7 (dk_at dksX1_isBetween_0 7 rfl rfl)
theorem dX1_isBetween_10 : decode cX1_isBetween 10 = .ok (.iconst 1, 1) := dk_4 (dk_at dksX1_isBetween_0 10 rfl rfl)
theorem dX1_isBetween_11 : decode cX1_isBetween 11 = .ok (.goto 4, 3) := dk_167 0 4 (dk_at dksX1_isBetween_0 11 rfl rfl)
theorem dX1_isBetween_14 : decode cX1_isBetween 14 = .ok (.iconst 0, 1) := dk_3 (dk_at dksX1_isBetween_0 14 rfl rfl)
theorem dX1_isBetween_15 : decode cX1_isBetween 15 = .ok (.ireturn, 1) := dk_172 (dk_at dksX1_isBetween_0 15 rfl rfl)
abbrev cX1_check : ByteArray := prog_1_method_4_code
def yX1_check : MethodName := ⟨RX1, "check", "(Z)V"⟩
def dkwX1_check_0 : List UInt8 := [26, 154, 0, 13, 187, 0, 100, 89, 18, 102, 183, 0, 104, 191, 177]
abbrev dktX1_check_0 : List UInt8 := dkwX1_check_0 ++ []
theorem dksX1_check_0 : cX1_check.data.toList.drop 0 = dktX1_check_0 := by decide +kernel
theorem dX1_check_0 : decode cX1_check 0 = .ok (.iload_n 0, 1) := dk_26 (dk_at dksX1_check_0 0 rfl rfl)
theorem dX1_check_1 : decode cX1_check 1 = .ok (.ifCond .ne 13, 3) := dk_154 0 13 (dk_at dksX1_check_0 1 rfl rfl)
theorem dX1_check_4 : decode cX1_check 4 = .ok (.new 100, 3) := dk_187 0 100 (dk_at dksX1_check_0 4 rfl rfl)
theorem dX1_check_7 : decode cX1_check 7 = .ok (.dup, 1) := dk_89 (dk_at dksX1_check_0 7 rfl rfl)
theorem dX1_check_8 : decode cX1_check 8 = .ok (.ldc 102, 2) := dk_18 102 (dk_at dksX1_check_0 8 rfl rfl)
theorem dX1_check_10 : decode cX1_check 10 = .ok (.invokespecial 104, 3) := dk_183 0 104 (dk_at dksX1_check_0 10 rfl rfl)
theorem dX1_check_13 : decode cX1_check 13 = .ok (.athrow, 1) := dk_191 (dk_at dksX1_check_0 13 rfl rfl)
theorem dX1_check_14 : decode cX1_check 14 = .ok (.return_, 1) := dk_177 (dk_at dksX1_check_0 14 rfl rfl)
abbrev cX1_attach : ByteArray := prog_1_method_18_code
def yX1_attach : MethodName := ⟨RX1, "attach", "(LIntervalTree$Node;)V"⟩
def dkwX1_attach_3 : List UInt8 := [167, 0, 8, 44, 43, 181, 0, 170, 43, 4, 181, 0, 191, 42, 43, 182, 0, 204, 42, 43, 182, 0, 207, 177]
abbrev dktX1_attach_3 : List UInt8 := dkwX1_attach_3 ++ []
def dkwX1_attach_2 : List UInt8 := [199, 0, 11, 42, 43, 181, 0, 173, 167, 0, 24, 43, 44, 182, 0, 201, 153, 0, 11, 44, 43, 181, 0, 163]
abbrev dktX1_attach_2 : List UInt8 := dkwX1_attach_2 ++ dktX1_attach_3
def dkwX1_attach_1 : List UInt8 := [153, 0, 10, 45, 180, 0, 163, 167, 0, 7, 45, 180, 0, 170, 78, 167, 255, 226, 43, 44, 181, 0, 137, 44]
abbrev dktX1_attach_1 : List UInt8 := dkwX1_attach_1 ++ dktX1_attach_2
def dkwX1_attach_0 : List UInt8 := [1, 77, 42, 180, 0, 173, 78, 45, 198, 0, 32, 45, 182, 0, 148, 45, 77, 43, 45, 182, 0, 201]
abbrev dktX1_attach_0 : List UInt8 := dkwX1_attach_0 ++ dktX1_attach_1
theorem dksX1_attach_0 : cX1_attach.data.toList.drop 0 = dktX1_attach_0 := by decide +kernel
theorem dksX1_attach_1 : cX1_attach.data.toList.drop 22 = dktX1_attach_1 := dk_seg dksX1_attach_0 22 rfl rfl
theorem dksX1_attach_2 : cX1_attach.data.toList.drop 46 = dktX1_attach_2 := dk_seg dksX1_attach_1 24 rfl rfl
theorem dksX1_attach_3 : cX1_attach.data.toList.drop 70 = dktX1_attach_3 := dk_seg dksX1_attach_2 24 rfl rfl
theorem dX1_attach_0 : decode cX1_attach 0 = .ok (.aconst_null, 1) := dk_1 (dk_at dksX1_attach_0 0 rfl rfl)
theorem dX1_attach_1 : decode cX1_attach 1 = .ok (.astore_n 2, 1) := dk_77 (dk_at dksX1_attach_0 1 rfl rfl)
theorem dX1_attach_2 : decode cX1_attach 2 = .ok (.aload_n 0, 1) := dk_42 (dk_at dksX1_attach_0 2 rfl rfl)
theorem dX1_attach_3 : decode cX1_attach 3 = .ok (.getfield 173, 3) := dk_180 0 173 (dk_at dksX1_attach_0 3 rfl rfl)
theorem dX1_attach_6 : decode cX1_attach 6 = .ok (.astore_n 3, 1) := dk_78 (dk_at dksX1_attach_0 6 rfl rfl)
theorem dX1_attach_7 : decode cX1_attach 7 = .ok (.aload_n 3, 1) := dk_45 (dk_at dksX1_attach_0 7 rfl rfl)
theorem dX1_attach_8 : decode cX1_attach 8 = .ok (.ifnull 32, 3) := dk_198 0 32 (dk_at dksX1_attach_0 8 rfl rfl)
theorem dX1_attach_11 : decode cX1_attach 11 = .ok (.aload_n 3, 1) := dk_45 (dk_at dksX1_attach_0 11 rfl rfl)
theorem dX1_attach_12 : decode cX1_attach 12 = .ok (.invokevirtual 148, 3) := dk_182 0 148 (dk_at dksX1_attach_0 12 rfl rfl)
theorem dX1_attach_15 : decode cX1_attach 15 = .ok (.aload_n 3, 1) := dk_45 (dk_at dksX1_attach_0 15 rfl rfl)
theorem dX1_attach_16 : decode cX1_attach 16 = .ok (.astore_n 2, 1) := dk_77 (dk_at dksX1_attach_0 16 rfl rfl)
theorem dX1_attach_17 : decode cX1_attach 17 = .ok (.aload_n 1, 1) := dk_43 (dk_at dksX1_attach_0 17 rfl rfl)
theorem dX1_attach_18 : decode cX1_attach 18 = .ok (.aload_n 3, 1) := dk_45 (dk_at dksX1_attach_0 18 rfl rfl)
theorem dX1_attach_19 : decode cX1_attach 19 = .ok (.invokevirtual 201, 3) := dk_182 0 201 (dk_at dksX1_attach_0 19 rfl rfl)
theorem dX1_attach_22 : decode cX1_attach 22 = .ok (.ifCond .eq 10, 3) := dk_153 0 10 (dk_at dksX1_attach_1 0 rfl rfl)
theorem dX1_attach_25 : decode cX1_attach 25 = .ok (.aload_n 3, 1) := dk_45 (dk_at dksX1_attach_1 3 rfl rfl)
theorem dX1_attach_26 : decode cX1_attach 26 = .ok (.getfield 163, 3) := dk_180 0 163 (dk_at dksX1_attach_1 4 rfl rfl)
theorem dX1_attach_29 : decode cX1_attach 29 = .ok (.goto 7, 3) := dk_167 0 7 (dk_at dksX1_attach_1 7 rfl rfl)
theorem dX1_attach_32 : decode cX1_attach 32 = .ok (.aload_n 3, 1) := dk_45 (dk_at dksX1_attach_1 10 rfl rfl)
theorem dX1_attach_33 : decode cX1_attach 33 = .ok (.getfield 170, 3) := dk_180 0 170 (dk_at dksX1_attach_1 11 rfl rfl)
theorem dX1_attach_36 : decode cX1_attach 36 = .ok (.astore_n 3, 1) := dk_78 (dk_at dksX1_attach_1 14 rfl rfl)
theorem dX1_attach_37 : decode cX1_attach 37 = .ok (.goto (-30), 3) := dk_167 255 226 (dk_at dksX1_attach_1 15 rfl rfl)
theorem dX1_attach_40 : decode cX1_attach 40 = .ok (.aload_n 1, 1) := dk_43 (dk_at dksX1_attach_1 18 rfl rfl)
theorem dX1_attach_41 : decode cX1_attach 41 = .ok (.aload_n 2, 1) := dk_44 (dk_at dksX1_attach_1 19 rfl rfl)
theorem dX1_attach_42 : decode cX1_attach 42 = .ok (.putfield 137, 3) := dk_181 0 137 (dk_at dksX1_attach_1 20 rfl rfl)
theorem dX1_attach_45 : decode cX1_attach 45 = .ok (.aload_n 2, 1) := dk_44 (dk_at dksX1_attach_1 23 rfl rfl)
theorem dX1_attach_46 : decode cX1_attach 46 = .ok (.ifnonnull 11, 3) := dk_199 0 11 (dk_at dksX1_attach_2 0 rfl rfl)
theorem dX1_attach_49 : decode cX1_attach 49 = .ok (.aload_n 0, 1) := dk_42 (dk_at dksX1_attach_2 3 rfl rfl)
theorem dX1_attach_50 : decode cX1_attach 50 = .ok (.aload_n 1, 1) := dk_43 (dk_at dksX1_attach_2 4 rfl rfl)
theorem dX1_attach_51 : decode cX1_attach 51 = .ok (.putfield 173, 3) := dk_181 0 173 (dk_at dksX1_attach_2 5 rfl rfl)
theorem dX1_attach_54 : decode cX1_attach 54 = .ok (.goto 24, 3) := dk_167 0 24 (dk_at dksX1_attach_2 8 rfl rfl)
theorem dX1_attach_57 : decode cX1_attach 57 = .ok (.aload_n 1, 1) := dk_43 (dk_at dksX1_attach_2 11 rfl rfl)
theorem dX1_attach_58 : decode cX1_attach 58 = .ok (.aload_n 2, 1) := dk_44 (dk_at dksX1_attach_2 12 rfl rfl)
theorem dX1_attach_59 : decode cX1_attach 59 = .ok (.invokevirtual 201, 3) := dk_182 0 201 (dk_at dksX1_attach_2 13 rfl rfl)
theorem dX1_attach_62 : decode cX1_attach 62 = .ok (.ifCond .eq 11, 3) := dk_153 0 11 (dk_at dksX1_attach_2 16 rfl rfl)
theorem dX1_attach_65 : decode cX1_attach 65 = .ok (.aload_n 2, 1) := dk_44 (dk_at dksX1_attach_2 19 rfl rfl)
theorem dX1_attach_66 : decode cX1_attach 66 = .ok (.aload_n 1, 1) := dk_43 (dk_at dksX1_attach_2 20 rfl rfl)
theorem dX1_attach_67 : decode cX1_attach 67 = .ok (.putfield 163, 3) := dk_181 0 163 (dk_at dksX1_attach_2 21 rfl rfl)
theorem dX1_attach_70 : decode cX1_attach 70 = .ok (.goto 8, 3) := dk_167 0 8 (dk_at dksX1_attach_3 0 rfl rfl)
theorem dX1_attach_73 : decode cX1_attach 73 = .ok (.aload_n 2, 1) := dk_44 (dk_at dksX1_attach_3 3 rfl rfl)
theorem dX1_attach_74 : decode cX1_attach 74 = .ok (.aload_n 1, 1) := dk_43 (dk_at dksX1_attach_3 4 rfl rfl)
theorem dX1_attach_75 : decode cX1_attach 75 = .ok (.putfield 170, 3) := dk_181 0 170 (dk_at dksX1_attach_3 5 rfl rfl)
theorem dX1_attach_78 : decode cX1_attach 78 = .ok (.aload_n 1, 1) := dk_43 (dk_at dksX1_attach_3 8 rfl rfl)
theorem dX1_attach_79 : decode cX1_attach 79 = .ok (.iconst 1, 1) := dk_4 (dk_at dksX1_attach_3 9 rfl rfl)
theorem dX1_attach_80 : decode cX1_attach 80 = .ok (.putfield 191, 3) := dk_181 0 191 (dk_at dksX1_attach_3 10 rfl rfl)
theorem dX1_attach_83 : decode cX1_attach 83 = .ok (.aload_n 0, 1) := dk_42 (dk_at dksX1_attach_3 13 rfl rfl)
theorem dX1_attach_84 : decode cX1_attach 84 = .ok (.aload_n 1, 1) := dk_43 (dk_at dksX1_attach_3 14 rfl rfl)
theorem dX1_attach_85 : decode cX1_attach 85 = .ok (.invokevirtual 204, 3) := dk_182 0 204 (dk_at dksX1_attach_3 15 rfl rfl)
theorem dX1_attach_88 : decode cX1_attach 88 = .ok (.aload_n 0, 1) := dk_42 (dk_at dksX1_attach_3 18 rfl rfl)
theorem dX1_attach_89 : decode cX1_attach 89 = .ok (.aload_n 1, 1) := dk_43 (dk_at dksX1_attach_3 19 rfl rfl)
theorem dX1_attach_90 : decode cX1_attach 90 = .ok (.invokevirtual 207, 3) := dk_182 0 207 (dk_at dksX1_attach_3 20 rfl rfl)
theorem dX1_attach_93 : decode cX1_attach 93 = .ok (.return_, 1) := dk_177 (dk_at dksX1_attach_3 23 rfl rfl)
abbrev cX1_pullPath : ByteArray := prog_1_method_10_code
def yX1_pullPath : MethodName := ⟨RX1, "pullPath", "(LIntervalTree$Node;)V"⟩
def dkwX1_pullPath_0 : List UInt8 := [43, 77, 44, 198, 0, 15, 44, 182, 0, 151, 44, 180, 0, 137, 77, 167, 255, 243, 177]
abbrev dktX1_pullPath_0 : List UInt8 := dkwX1_pullPath_0 ++ []
theorem dksX1_pullPath_0 : cX1_pullPath.data.toList.drop 0 = dktX1_pullPath_0 := by decide +kernel
theorem dX1_pullPath_0 : decode cX1_pullPath 0 = .ok (.aload_n 1, 1) := dk_43 (dk_at dksX1_pullPath_0 0 rfl rfl)
theorem dX1_pullPath_1 : decode cX1_pullPath 1 = .ok (.astore_n 2, 1) := dk_77 (dk_at dksX1_pullPath_0 1 rfl rfl)
theorem dX1_pullPath_2 : decode cX1_pullPath 2 = .ok (.aload_n 2, 1) := dk_44 (dk_at dksX1_pullPath_0 2 rfl rfl)
theorem dX1_pullPath_3 : decode cX1_pullPath 3 = .ok (.ifnull 15, 3) := dk_198 0 15 (dk_at dksX1_pullPath_0 3 rfl rfl)
theorem dX1_pullPath_6 : decode cX1_pullPath 6 = .ok (.aload_n 2, 1) := dk_44 (dk_at dksX1_pullPath_0 6 rfl rfl)
theorem dX1_pullPath_7 : decode cX1_pullPath 7 = .ok (.invokevirtual 151, 3) := dk_182 0 151 (dk_at dksX1_pullPath_0 7 rfl rfl)
theorem dX1_pullPath_10 : decode cX1_pullPath 10 = .ok (.aload_n 2, 1) := dk_44 (dk_at dksX1_pullPath_0 10 rfl rfl)
theorem dX1_pullPath_11 : decode cX1_pullPath 11 = .ok (.getfield 137, 3) := dk_180 0 137 (dk_at dksX1_pullPath_0 11 rfl rfl)
theorem dX1_pullPath_14 : decode cX1_pullPath 14 = .ok (.astore_n 2, 1) := dk_77 (dk_at dksX1_pullPath_0 14 rfl rfl)
theorem dX1_pullPath_15 : decode cX1_pullPath 15 = .ok (.goto (-13), 3) := dk_167 255 243 (dk_at dksX1_pullPath_0 15 rfl rfl)
theorem dX1_pullPath_18 : decode cX1_pullPath 18 = .ok (.return_, 1) := dk_177 (dk_at dksX1_pullPath_0 18 rfl rfl)
abbrev cX1_repair : ByteArray := prog_1_method_17_code
def yX1_repair : MethodName := ⟨RX1, "repair", "(LIntervalTree$Node;)V"⟩
def dkwX1_repair_6 : List UInt8 := [181, 0, 191, 177]
abbrev dktX1_repair_6 : List UInt8 := dkwX1_repair_6 ++ []
def dkwX1_repair_5 : List UInt8 := [181, 0, 191, 25, 4, 4, 181, 0, 191, 42, 45, 182, 0, 198, 167, 0, 3, 42, 180, 0, 173, 3]
abbrev dktX1_repair_5 : List UInt8 := dkwX1_repair_5 ++ dktX1_repair_6
def dkwX1_repair_4 : List UInt8 := [180, 0, 163, 44, 166, 0, 7, 4, 167, 0, 4, 3, 159, 0, 10, 42, 44, 182, 0, 198, 44, 78, 45, 3]
abbrev dktX1_repair_4 : List UInt8 := dkwX1_repair_4 ++ dktX1_repair_5
def dkwX1_repair_3 : List UInt8 := [181, 0, 191, 25, 4, 77, 167, 255, 183, 25, 4, 180, 0, 163, 45, 166, 0, 7, 4, 167, 0, 4, 3, 45]
abbrev dktX1_repair_3 : List UInt8 := dkwX1_repair_3 ++ dktX1_repair_4
def dkwX1_repair_2 : List UInt8 := [25, 5, 184, 0, 194, 153, 0, 26, 45, 3, 181, 0, 191, 25, 5, 3, 181, 0, 191, 25, 4, 4]
abbrev dktX1_repair_2 : List UInt8 := dkwX1_repair_2 ++ dktX1_repair_3
def dkwX1_repair_1 : List UInt8 := [25, 4, 180, 0, 163, 45, 166, 0, 11, 25, 4, 180, 0, 170, 167, 0, 8, 25, 4, 180, 0, 163, 58, 5]
abbrev dktX1_repair_1 : List UInt8 := dkwX1_repair_1 ++ dktX1_repair_2
def dkwX1_repair_0 : List UInt8 := [43, 77, 44, 180, 0, 137, 184, 0, 194, 153, 0, 125, 44, 180, 0, 137, 78, 45, 180, 0, 137, 58, 4]
abbrev dktX1_repair_0 : List UInt8 := dkwX1_repair_0 ++ dktX1_repair_1
theorem dksX1_repair_0 : cX1_repair.data.toList.drop 0 = dktX1_repair_0 := by decide +kernel
theorem dksX1_repair_1 : cX1_repair.data.toList.drop 23 = dktX1_repair_1 := dk_seg dksX1_repair_0 23 rfl rfl
theorem dksX1_repair_2 : cX1_repair.data.toList.drop 47 = dktX1_repair_2 := dk_seg dksX1_repair_1 24 rfl rfl
theorem dksX1_repair_3 : cX1_repair.data.toList.drop 69 = dktX1_repair_3 := dk_seg dksX1_repair_2 22 rfl rfl
theorem dksX1_repair_4 : cX1_repair.data.toList.drop 93 = dktX1_repair_4 := dk_seg dksX1_repair_3 24 rfl rfl
theorem dksX1_repair_5 : cX1_repair.data.toList.drop 117 = dktX1_repair_5 := dk_seg dksX1_repair_4 24 rfl rfl
theorem dksX1_repair_6 : cX1_repair.data.toList.drop 139 = dktX1_repair_6 := dk_seg dksX1_repair_5 22 rfl rfl
theorem dX1_repair_0 : decode cX1_repair 0 = .ok (.aload_n 1, 1) := dk_43 (dk_at dksX1_repair_0 0 rfl rfl)
theorem dX1_repair_1 : decode cX1_repair 1 = .ok (.astore_n 2, 1) := dk_77 (dk_at dksX1_repair_0 1 rfl rfl)
theorem dX1_repair_2 : decode cX1_repair 2 = .ok (.aload_n 2, 1) := dk_44 (dk_at dksX1_repair_0 2 rfl rfl)
theorem dX1_repair_3 : decode cX1_repair 3 = .ok (.getfield 137, 3) := dk_180 0 137 (dk_at dksX1_repair_0 3 rfl rfl)
theorem dX1_repair_6 : decode cX1_repair 6 = .ok (.invokestatic 194, 3) := dk_184 0 194 (dk_at dksX1_repair_0 6 rfl rfl)
theorem dX1_repair_9 : decode cX1_repair 9 = .ok (.ifCond .eq 125, 3) := dk_153 0 125 (dk_at dksX1_repair_0 9 rfl rfl)
theorem dX1_repair_12 : decode cX1_repair 12 = .ok (.aload_n 2, 1) := dk_44 (dk_at dksX1_repair_0 12 rfl rfl)
theorem dX1_repair_13 : decode cX1_repair 13 = .ok (.getfield 137, 3) := dk_180 0 137 (dk_at dksX1_repair_0 13 rfl rfl)
theorem dX1_repair_16 : decode cX1_repair 16 = .ok (.astore_n 3, 1) := dk_78 (dk_at dksX1_repair_0 16 rfl rfl)
theorem dX1_repair_17 : decode cX1_repair 17 = .ok (.aload_n 3, 1) := dk_45 (dk_at dksX1_repair_0 17 rfl rfl)
theorem dX1_repair_18 : decode cX1_repair 18 = .ok (.getfield 137, 3) := dk_180 0 137 (dk_at dksX1_repair_0 18 rfl rfl)
theorem dX1_repair_21 : decode cX1_repair 21 = .ok (.astore 4, 2) := dk_58 4 (dk_at dksX1_repair_0 21 rfl rfl)
theorem dX1_repair_23 : decode cX1_repair 23 = .ok (.aload 4, 2) := dk_25 4 (dk_at dksX1_repair_1 0 rfl rfl)
theorem dX1_repair_25 : decode cX1_repair 25 = .ok (.getfield 163, 3) := dk_180 0 163 (dk_at dksX1_repair_1 2 rfl rfl)
theorem dX1_repair_28 : decode cX1_repair 28 = .ok (.aload_n 3, 1) := dk_45 (dk_at dksX1_repair_1 5 rfl rfl)
theorem dX1_repair_29 : decode cX1_repair 29 = .ok (.if_acmp .ne 11, 3) := dk_166 0 11 (dk_at dksX1_repair_1 6 rfl rfl)
theorem dX1_repair_32 : decode cX1_repair 32 = .ok (.aload 4, 2) := dk_25 4 (dk_at dksX1_repair_1 9 rfl rfl)
theorem dX1_repair_34 : decode cX1_repair 34 = .ok (.getfield 170, 3) := dk_180 0 170 (dk_at dksX1_repair_1 11 rfl rfl)
theorem dX1_repair_37 : decode cX1_repair 37 = .ok (.goto 8, 3) := dk_167 0 8 (dk_at dksX1_repair_1 14 rfl rfl)
theorem dX1_repair_40 : decode cX1_repair 40 = .ok (.aload 4, 2) := dk_25 4 (dk_at dksX1_repair_1 17 rfl rfl)
theorem dX1_repair_42 : decode cX1_repair 42 = .ok (.getfield 163, 3) := dk_180 0 163 (dk_at dksX1_repair_1 19 rfl rfl)
theorem dX1_repair_45 : decode cX1_repair 45 = .ok (.astore 5, 2) := dk_58 5 (dk_at dksX1_repair_1 22 rfl rfl)
theorem dX1_repair_47 : decode cX1_repair 47 = .ok (.aload 5, 2) := dk_25 5 (dk_at dksX1_repair_2 0 rfl rfl)
theorem dX1_repair_49 : decode cX1_repair 49 = .ok (.invokestatic 194, 3) := dk_184 0 194 (dk_at dksX1_repair_2 2 rfl rfl)
theorem dX1_repair_52 : decode cX1_repair 52 = .ok (.ifCond .eq 26, 3) := dk_153 0 26 (dk_at dksX1_repair_2 5 rfl rfl)
theorem dX1_repair_55 : decode cX1_repair 55 = .ok (.aload_n 3, 1) := dk_45 (dk_at dksX1_repair_2 8 rfl rfl)
theorem dX1_repair_56 : decode cX1_repair 56 = .ok (.iconst 0, 1) := dk_3 (dk_at dksX1_repair_2 9 rfl rfl)
theorem dX1_repair_57 : decode cX1_repair 57 = .ok (.putfield 191, 3) := dk_181 0 191 (dk_at dksX1_repair_2 10 rfl rfl)
theorem dX1_repair_60 : decode cX1_repair 60 = .ok (.aload 5, 2) := dk_25 5 (dk_at dksX1_repair_2 13 rfl rfl)
theorem dX1_repair_62 : decode cX1_repair 62 = .ok (.iconst 0, 1) := dk_3 (dk_at dksX1_repair_2 15 rfl rfl)
theorem dX1_repair_63 : decode cX1_repair 63 = .ok (.putfield 191, 3) := dk_181 0 191 (dk_at dksX1_repair_2 16 rfl rfl)
theorem dX1_repair_66 : decode cX1_repair 66 = .ok (.aload 4, 2) := dk_25 4 (dk_at dksX1_repair_2 19 rfl rfl)
theorem dX1_repair_68 : decode cX1_repair 68 = .ok (.iconst 1, 1) := dk_4 (dk_at dksX1_repair_2 21 rfl rfl)
theorem dX1_repair_69 : decode cX1_repair 69 = .ok (.putfield 191, 3) := dk_181 0 191 (dk_at dksX1_repair_3 0 rfl rfl)
theorem dX1_repair_72 : decode cX1_repair 72 = .ok (.aload 4, 2) := dk_25 4 (dk_at dksX1_repair_3 3 rfl rfl)
theorem dX1_repair_74 : decode cX1_repair 74 = .ok (.astore_n 2, 1) := dk_77 (dk_at dksX1_repair_3 5 rfl rfl)
theorem dX1_repair_75 : decode cX1_repair 75 = .ok (.goto (-73), 3) := dk_167 255 183 (dk_at dksX1_repair_3 6 rfl rfl)
theorem dX1_repair_78 : decode cX1_repair 78 = .ok (.aload 4, 2) := dk_25 4 (dk_at dksX1_repair_3 9 rfl rfl)
theorem dX1_repair_80 : decode cX1_repair 80 = .ok (.getfield 163, 3) := dk_180 0 163 (dk_at dksX1_repair_3 11 rfl rfl)
theorem dX1_repair_83 : decode cX1_repair 83 = .ok (.aload_n 3, 1) := dk_45 (dk_at dksX1_repair_3 14 rfl rfl)
theorem dX1_repair_84 : decode cX1_repair 84 = .ok (.if_acmp .ne 7, 3) := dk_166 0 7 (dk_at dksX1_repair_3 15 rfl rfl)
theorem dX1_repair_87 : decode cX1_repair 87 = .ok (.iconst 1, 1) := dk_4 (dk_at dksX1_repair_3 18 rfl rfl)
theorem dX1_repair_88 : decode cX1_repair 88 = .ok (.goto 4, 3) := dk_167 0 4 (dk_at dksX1_repair_3 19 rfl rfl)
theorem dX1_repair_91 : decode cX1_repair 91 = .ok (.iconst 0, 1) := dk_3 (dk_at dksX1_repair_3 22 rfl rfl)
theorem dX1_repair_92 : decode cX1_repair 92 = .ok (.aload_n 3, 1) := dk_45 (dk_at dksX1_repair_3 23 rfl rfl)
theorem dX1_repair_93 : decode cX1_repair 93 = .ok (.getfield 163, 3) := dk_180 0 163 (dk_at dksX1_repair_4 0 rfl rfl)
theorem dX1_repair_96 : decode cX1_repair 96 = .ok (.aload_n 2, 1) := dk_44 (dk_at dksX1_repair_4 3 rfl rfl)
theorem dX1_repair_97 : decode cX1_repair 97 = .ok (.if_acmp .ne 7, 3) := dk_166 0 7 (dk_at dksX1_repair_4 4 rfl rfl)
theorem dX1_repair_100 : decode cX1_repair 100 = .ok (.iconst 1, 1) := dk_4 (dk_at dksX1_repair_4 7 rfl rfl)
theorem dX1_repair_101 : decode cX1_repair 101 = .ok (.goto 4, 3) := dk_167 0 4 (dk_at dksX1_repair_4 8 rfl rfl)
theorem dX1_repair_104 : decode cX1_repair 104 = .ok (.iconst 0, 1) := dk_3 (dk_at dksX1_repair_4 11 rfl rfl)
theorem dX1_repair_105 : decode cX1_repair 105 = .ok (.if_icmp .eq 10, 3) := dk_159 0 10 (dk_at dksX1_repair_4 12 rfl rfl)
theorem dX1_repair_108 : decode cX1_repair 108 = .ok (.aload_n 0, 1) := dk_42 (dk_at dksX1_repair_4 15 rfl rfl)
theorem dX1_repair_109 : decode cX1_repair 109 = .ok (.aload_n 2, 1) := dk_44 (dk_at dksX1_repair_4 16 rfl rfl)
theorem dX1_repair_110 : decode cX1_repair 110 = .ok (.invokevirtual 198, 3) := dk_182 0 198 (dk_at dksX1_repair_4 17 rfl rfl)
theorem dX1_repair_113 : decode cX1_repair 113 = .ok (.aload_n 2, 1) := dk_44 (dk_at dksX1_repair_4 20 rfl rfl)
theorem dX1_repair_114 : decode cX1_repair 114 = .ok (.astore_n 3, 1) := dk_78 (dk_at dksX1_repair_4 21 rfl rfl)
theorem dX1_repair_115 : decode cX1_repair 115 = .ok (.aload_n 3, 1) := dk_45 (dk_at dksX1_repair_4 22 rfl rfl)
theorem dX1_repair_116 : decode cX1_repair 116 = .ok (.iconst 0, 1) := dk_3 (dk_at dksX1_repair_4 23 rfl rfl)
theorem dX1_repair_117 : decode cX1_repair 117 = .ok (.putfield 191, 3) := dk_181 0 191 (dk_at dksX1_repair_5 0 rfl rfl)
theorem dX1_repair_120 : decode cX1_repair 120 = .ok (.aload 4, 2) := dk_25 4 (dk_at dksX1_repair_5 3 rfl rfl)
theorem dX1_repair_122 : decode cX1_repair 122 = .ok (.iconst 1, 1) := dk_4 (dk_at dksX1_repair_5 5 rfl rfl)
theorem dX1_repair_123 : decode cX1_repair 123 = .ok (.putfield 191, 3) := dk_181 0 191 (dk_at dksX1_repair_5 6 rfl rfl)
theorem dX1_repair_126 : decode cX1_repair 126 = .ok (.aload_n 0, 1) := dk_42 (dk_at dksX1_repair_5 9 rfl rfl)
theorem dX1_repair_127 : decode cX1_repair 127 = .ok (.aload_n 3, 1) := dk_45 (dk_at dksX1_repair_5 10 rfl rfl)
theorem dX1_repair_128 : decode cX1_repair 128 = .ok (.invokevirtual 198, 3) := dk_182 0 198 (dk_at dksX1_repair_5 11 rfl rfl)
theorem dX1_repair_131 : decode cX1_repair 131 = .ok (.goto 3, 3) := dk_167 0 3 (dk_at dksX1_repair_5 14 rfl rfl)
theorem dX1_repair_134 : decode cX1_repair 134 = .ok (.aload_n 0, 1) := dk_42 (dk_at dksX1_repair_5 17 rfl rfl)
theorem dX1_repair_135 : decode cX1_repair 135 = .ok (.getfield 173, 3) := dk_180 0 173 (dk_at dksX1_repair_5 18 rfl rfl)
theorem dX1_repair_138 : decode cX1_repair 138 = .ok (.iconst 0, 1) := dk_3 (dk_at dksX1_repair_5 21 rfl rfl)
theorem dX1_repair_139 : decode cX1_repair 139 = .ok (.putfield 191, 3) := dk_181 0 191 (dk_at dksX1_repair_6 0 rfl rfl)
theorem dX1_repair_142 : decode cX1_repair 142 = .ok (.return_, 1) := dk_177 (dk_at dksX1_repair_6 3 rfl rfl)
abbrev cX1_isRedNode : ByteArray := prog_1_method_16_code
def yX1_isRedNode : MethodName := ⟨RX1, "isRedNode", "(LIntervalTree$Node;)Z"⟩
def dkwX1_isRedNode_0 : List UInt8 := [42, 198, 0, 14, 42, 180, 0, 191, 153, 0, 7, 4, 167, 0, 4, 3, 172]
abbrev dktX1_isRedNode_0 : List UInt8 := dkwX1_isRedNode_0 ++ []
theorem dksX1_isRedNode_0 : cX1_isRedNode.data.toList.drop 0 = dktX1_isRedNode_0 := by decide +kernel
theorem dX1_isRedNode_0 : decode cX1_isRedNode 0 = .ok (.aload_n 0, 1) := dk_42 (dk_at dksX1_isRedNode_0 0 rfl rfl)
theorem dX1_isRedNode_1 : decode cX1_isRedNode 1 = .ok (.ifnull 14, 3) := dk_198 0 14 (dk_at dksX1_isRedNode_0 1 rfl rfl)
theorem dX1_isRedNode_4 : decode cX1_isRedNode 4 = .ok (.aload_n 0, 1) := dk_42 (dk_at dksX1_isRedNode_0 4 rfl rfl)
theorem dX1_isRedNode_5 : decode cX1_isRedNode 5 = .ok (.getfield 191, 3) := dk_180 0 191 (dk_at dksX1_isRedNode_0 5 rfl rfl)
theorem dX1_isRedNode_8 : decode cX1_isRedNode 8 = .ok (.ifCond .eq 7, 3) := dk_153 0 7 (dk_at dksX1_isRedNode_0 8 rfl rfl)
theorem dX1_isRedNode_11 : decode cX1_isRedNode 11 = .ok (.iconst 1, 1) := dk_4 (dk_at dksX1_isRedNode_0 11 rfl rfl)
theorem dX1_isRedNode_12 : decode cX1_isRedNode 12 = .ok (.goto 4, 3) := dk_167 0 4 (dk_at dksX1_isRedNode_0 12 rfl rfl)
theorem dX1_isRedNode_15 : decode cX1_isRedNode 15 = .ok (.iconst 0, 1) := dk_3 (dk_at dksX1_isRedNode_0 15 rfl rfl)
theorem dX1_isRedNode_16 : decode cX1_isRedNode 16 = .ok (.ireturn, 1) := dk_172 (dk_at dksX1_isRedNode_0 16 rfl rfl)
abbrev cX1_rotateUp : ByteArray := prog_1_method_15_code
def yX1_rotateUp : MethodName := ⟨RX1, "rotateUp", "(LIntervalTree$Node;)V"⟩
def dkwX1_rotateUp_4 : List UInt8 := [182, 0, 151, 177]
abbrev dktX1_rotateUp_4 : List UInt8 := dkwX1_rotateUp_4 ++ []
def dkwX1_rotateUp_3 : List UInt8 := [180, 0, 163, 44, 181, 0, 137, 43, 44, 181, 0, 163, 44, 43, 181, 0, 137, 44, 182, 0, 151, 43]
abbrev dktX1_rotateUp_3 : List UInt8 := dkwX1_rotateUp_3 ++ dktX1_rotateUp_4
def dkwX1_rotateUp_2 : List UInt8 := [181, 0, 170, 167, 0, 31, 44, 43, 180, 0, 163, 181, 0, 170, 43, 180, 0, 163, 198, 0, 11, 43]
abbrev dktX1_rotateUp_2 : List UInt8 := dkwX1_rotateUp_2 ++ dktX1_rotateUp_3
def dkwX1_rotateUp_1 : List UInt8 := [43, 180, 0, 170, 181, 0, 163, 43, 180, 0, 170, 198, 0, 11, 43, 180, 0, 170, 44, 181, 0, 137, 43, 44]
abbrev dktX1_rotateUp_1 : List UInt8 := dkwX1_rotateUp_1 ++ dktX1_rotateUp_2
def dkwX1_rotateUp_0 : List UInt8 := [43, 180, 0, 137, 77, 42, 44, 180, 0, 137, 44, 43, 182, 0, 187, 44, 180, 0, 163, 43, 166, 0, 34, 44]
abbrev dktX1_rotateUp_0 : List UInt8 := dkwX1_rotateUp_0 ++ dktX1_rotateUp_1
theorem dksX1_rotateUp_0 : cX1_rotateUp.data.toList.drop 0 = dktX1_rotateUp_0 := by decide +kernel
theorem dksX1_rotateUp_1 : cX1_rotateUp.data.toList.drop 24 = dktX1_rotateUp_1 := dk_seg dksX1_rotateUp_0 24 rfl rfl
theorem dksX1_rotateUp_2 : cX1_rotateUp.data.toList.drop 48 = dktX1_rotateUp_2 := dk_seg dksX1_rotateUp_1 24 rfl rfl
theorem dksX1_rotateUp_3 : cX1_rotateUp.data.toList.drop 70 = dktX1_rotateUp_3 := dk_seg dksX1_rotateUp_2 22 rfl rfl
theorem dksX1_rotateUp_4 : cX1_rotateUp.data.toList.drop 92 = dktX1_rotateUp_4 := dk_seg dksX1_rotateUp_3 22 rfl rfl
theorem dX1_rotateUp_0 : decode cX1_rotateUp 0 = .ok (.aload_n 1, 1) := dk_43 (dk_at dksX1_rotateUp_0 0 rfl rfl)
theorem dX1_rotateUp_1 : decode cX1_rotateUp 1 = .ok (.getfield 137, 3) := dk_180 0 137 (dk_at dksX1_rotateUp_0 1 rfl rfl)
theorem dX1_rotateUp_4 : decode cX1_rotateUp 4 = .ok (.astore_n 2, 1) := dk_77 (dk_at dksX1_rotateUp_0 4 rfl rfl)
theorem dX1_rotateUp_5 : decode cX1_rotateUp 5 = .ok (.aload_n 0, 1) := dk_42 (dk_at dksX1_rotateUp_0 5 rfl rfl)
theorem dX1_rotateUp_6 : decode cX1_rotateUp 6 = .ok (.aload_n 2, 1) := dk_44 (dk_at dksX1_rotateUp_0 6 rfl rfl)
theorem dX1_rotateUp_7 : decode cX1_rotateUp 7 = .ok (.getfield 137, 3) := dk_180 0 137 (dk_at dksX1_rotateUp_0 7 rfl rfl)
theorem dX1_rotateUp_10 : decode cX1_rotateUp 10 = .ok (.aload_n 2, 1) := dk_44 (dk_at dksX1_rotateUp_0 10 rfl rfl)
theorem dX1_rotateUp_11 : decode cX1_rotateUp 11 = .ok (.aload_n 1, 1) := dk_43 (dk_at dksX1_rotateUp_0 11 rfl rfl)
theorem dX1_rotateUp_12 : decode cX1_rotateUp 12 = .ok (.invokevirtual 187, 3) := dk_182 0 187 (dk_at dksX1_rotateUp_0 12 rfl rfl)
theorem dX1_rotateUp_15 : decode cX1_rotateUp 15 = .ok (.aload_n 2, 1) := dk_44 (dk_at dksX1_rotateUp_0 15 rfl rfl)
theorem dX1_rotateUp_16 : decode cX1_rotateUp 16 = .ok (.getfield 163, 3) := dk_180 0 163 (dk_at dksX1_rotateUp_0 16 rfl rfl)
theorem dX1_rotateUp_19 : decode cX1_rotateUp 19 = .ok (.aload_n 1, 1) := dk_43 (dk_at dksX1_rotateUp_0 19 rfl rfl)
theorem dX1_rotateUp_20 : decode cX1_rotateUp 20 = .ok (.if_acmp .ne 34, 3) := dk_166 0 34 (dk_at dksX1_rotateUp_0 20 rfl rfl)
theorem dX1_rotateUp_23 : decode cX1_rotateUp 23 = .ok (.aload_n 2, 1) := dk_44 (dk_at dksX1_rotateUp_0 23 rfl rfl)
theorem dX1_rotateUp_24 : decode cX1_rotateUp 24 = .ok (.aload_n 1, 1) := dk_43 (dk_at dksX1_rotateUp_1 0 rfl rfl)
theorem dX1_rotateUp_25 : decode cX1_rotateUp 25 = .ok (.getfield 170, 3) := dk_180 0 170 (dk_at dksX1_rotateUp_1 1 rfl rfl)
theorem dX1_rotateUp_28 : decode cX1_rotateUp 28 = .ok (.putfield 163, 3) := dk_181 0 163 (dk_at dksX1_rotateUp_1 4 rfl rfl)
theorem dX1_rotateUp_31 : decode cX1_rotateUp 31 = .ok (.aload_n 1, 1) := dk_43 (dk_at dksX1_rotateUp_1 7 rfl rfl)
theorem dX1_rotateUp_32 : decode cX1_rotateUp 32 = .ok (.getfield 170, 3) := dk_180 0 170 (dk_at dksX1_rotateUp_1 8 rfl rfl)
theorem dX1_rotateUp_35 : decode cX1_rotateUp 35 = .ok (.ifnull 11, 3) := dk_198 0 11 (dk_at dksX1_rotateUp_1 11 rfl rfl)
theorem dX1_rotateUp_38 : decode cX1_rotateUp 38 = .ok (.aload_n 1, 1) := dk_43 (dk_at dksX1_rotateUp_1 14 rfl rfl)
theorem dX1_rotateUp_39 : decode cX1_rotateUp 39 = .ok (.getfield 170, 3) := dk_180 0 170 (dk_at dksX1_rotateUp_1 15 rfl rfl)
theorem dX1_rotateUp_42 : decode cX1_rotateUp 42 = .ok (.aload_n 2, 1) := dk_44 (dk_at dksX1_rotateUp_1 18 rfl rfl)
theorem dX1_rotateUp_43 : decode cX1_rotateUp 43 = .ok (.putfield 137, 3) := dk_181 0 137 (dk_at dksX1_rotateUp_1 19 rfl rfl)
theorem dX1_rotateUp_46 : decode cX1_rotateUp 46 = .ok (.aload_n 1, 1) := dk_43 (dk_at dksX1_rotateUp_1 22 rfl rfl)
theorem dX1_rotateUp_47 : decode cX1_rotateUp 47 = .ok (.aload_n 2, 1) := dk_44 (dk_at dksX1_rotateUp_1 23 rfl rfl)
theorem dX1_rotateUp_48 : decode cX1_rotateUp 48 = .ok (.putfield 170, 3) := dk_181 0 170 (dk_at dksX1_rotateUp_2 0 rfl rfl)
theorem dX1_rotateUp_51 : decode cX1_rotateUp 51 = .ok (.goto 31, 3) := dk_167 0 31 (dk_at dksX1_rotateUp_2 3 rfl rfl)
theorem dX1_rotateUp_54 : decode cX1_rotateUp 54 = .ok (.aload_n 2, 1) := dk_44 (dk_at dksX1_rotateUp_2 6 rfl rfl)
theorem dX1_rotateUp_55 : decode cX1_rotateUp 55 = .ok (.aload_n 1, 1) := dk_43 (dk_at dksX1_rotateUp_2 7 rfl rfl)
theorem dX1_rotateUp_56 : decode cX1_rotateUp 56 = .ok (.getfield 163, 3) := dk_180 0 163 (dk_at dksX1_rotateUp_2 8 rfl rfl)
theorem dX1_rotateUp_59 : decode cX1_rotateUp 59 = .ok (.putfield 170, 3) := dk_181 0 170 (dk_at dksX1_rotateUp_2 11 rfl rfl)
theorem dX1_rotateUp_62 : decode cX1_rotateUp 62 = .ok (.aload_n 1, 1) := dk_43 (dk_at dksX1_rotateUp_2 14 rfl rfl)
theorem dX1_rotateUp_63 : decode cX1_rotateUp 63 = .ok (.getfield 163, 3) := dk_180 0 163 (dk_at dksX1_rotateUp_2 15 rfl rfl)
theorem dX1_rotateUp_66 : decode cX1_rotateUp 66 = .ok (.ifnull 11, 3) := dk_198 0 11 (dk_at dksX1_rotateUp_2 18 rfl rfl)
theorem dX1_rotateUp_69 : decode cX1_rotateUp 69 = .ok (.aload_n 1, 1) := dk_43 (dk_at dksX1_rotateUp_2 21 rfl rfl)
theorem dX1_rotateUp_70 : decode cX1_rotateUp 70 = .ok (.getfield 163, 3) := dk_180 0 163 (dk_at dksX1_rotateUp_3 0 rfl rfl)
theorem dX1_rotateUp_73 : decode cX1_rotateUp 73 = .ok (.aload_n 2, 1) := dk_44 (dk_at dksX1_rotateUp_3 3 rfl rfl)
theorem dX1_rotateUp_74 : decode cX1_rotateUp 74 = .ok (.putfield 137, 3) := dk_181 0 137 (dk_at dksX1_rotateUp_3 4 rfl rfl)
theorem dX1_rotateUp_77 : decode cX1_rotateUp 77 = .ok (.aload_n 1, 1) := dk_43 (dk_at dksX1_rotateUp_3 7 rfl rfl)
theorem dX1_rotateUp_78 : decode cX1_rotateUp 78 = .ok (.aload_n 2, 1) := dk_44 (dk_at dksX1_rotateUp_3 8 rfl rfl)
theorem dX1_rotateUp_79 : decode cX1_rotateUp 79 = .ok (.putfield 163, 3) := dk_181 0 163 (dk_at dksX1_rotateUp_3 9 rfl rfl)
theorem dX1_rotateUp_82 : decode cX1_rotateUp 82 = .ok (.aload_n 2, 1) := dk_44 (dk_at dksX1_rotateUp_3 12 rfl rfl)
theorem dX1_rotateUp_83 : decode cX1_rotateUp 83 = .ok (.aload_n 1, 1) := dk_43 (dk_at dksX1_rotateUp_3 13 rfl rfl)
theorem dX1_rotateUp_84 : decode cX1_rotateUp 84 = .ok (.putfield 137, 3) := dk_181 0 137 (dk_at dksX1_rotateUp_3 14 rfl rfl)
theorem dX1_rotateUp_87 : decode cX1_rotateUp 87 = .ok (.aload_n 2, 1) := dk_44 (dk_at dksX1_rotateUp_3 17 rfl rfl)
theorem dX1_rotateUp_88 : decode cX1_rotateUp 88 = .ok (.invokevirtual 151, 3) := dk_182 0 151 (dk_at dksX1_rotateUp_3 18 rfl rfl)
theorem dX1_rotateUp_91 : decode cX1_rotateUp 91 = .ok (.aload_n 1, 1) := dk_43 (dk_at dksX1_rotateUp_3 21 rfl rfl)
theorem dX1_rotateUp_92 : decode cX1_rotateUp 92 = .ok (.invokevirtual 151, 3) := dk_182 0 151 (dk_at dksX1_rotateUp_4 0 rfl rfl)
theorem dX1_rotateUp_95 : decode cX1_rotateUp 95 = .ok (.return_, 1) := dk_177 (dk_at dksX1_rotateUp_4 3 rfl rfl)
abbrev cX1_replaceChild : ByteArray := prog_1_method_14_code
def yX1_replaceChild : MethodName := ⟨RX1, "replaceChild", "(LIntervalTree$Node;LIntervalTree$Node;LIntervalTree$Node;)V"⟩
def dkwX1_replaceChild_1 : List UInt8 := [181, 0, 163, 167, 0, 8, 43, 45, 181, 0, 170, 45, 198, 0, 8, 45, 43, 181, 0, 137, 177]
abbrev dktX1_replaceChild_1 : List UInt8 := dkwX1_replaceChild_1 ++ []
def dkwX1_replaceChild_0 : List UInt8 := [43, 199, 0, 11, 42, 45, 181, 0, 173, 167, 0, 24, 43, 180, 0, 163, 44, 166, 0, 11, 43, 45]
abbrev dktX1_replaceChild_0 : List UInt8 := dkwX1_replaceChild_0 ++ dktX1_replaceChild_1
theorem dksX1_replaceChild_0 : cX1_replaceChild.data.toList.drop 0 = dktX1_replaceChild_0 := by decide +kernel
theorem dksX1_replaceChild_1 : cX1_replaceChild.data.toList.drop 22 = dktX1_replaceChild_1 := dk_seg dksX1_replaceChild_0 22 rfl rfl
theorem dX1_replaceChild_0 : decode cX1_replaceChild 0 = .ok (.aload_n 1, 1) := dk_43 (dk_at dksX1_replaceChild_0 0 rfl rfl)
theorem dX1_replaceChild_1 : decode cX1_replaceChild 1 = .ok (.ifnonnull 11, 3) := dk_199 0 11 (dk_at dksX1_replaceChild_0 1 rfl rfl)
theorem dX1_replaceChild_4 : decode cX1_replaceChild 4 = .ok (.aload_n 0, 1) := dk_42 (dk_at dksX1_replaceChild_0 4 rfl rfl)
theorem dX1_replaceChild_5 : decode cX1_replaceChild 5 = .ok (.aload_n 3, 1) := dk_45 (dk_at dksX1_replaceChild_0 5 rfl rfl)
theorem dX1_replaceChild_6 : decode cX1_replaceChild 6 = .ok (.putfield 173, 3) := dk_181 0 173 (dk_at dksX1_replaceChild_0 6 rfl rfl)
theorem dX1_replaceChild_9 : decode cX1_replaceChild 9 = .ok (.goto 24, 3) := dk_167 0 24 (dk_at dksX1_replaceChild_0 9 rfl rfl)
theorem dX1_replaceChild_12 : decode cX1_replaceChild 12 = .ok (.aload_n 1, 1) := dk_43 (dk_at dksX1_replaceChild_0 12 rfl rfl)
theorem dX1_replaceChild_13 : decode cX1_replaceChild 13 = .ok (.getfield 163, 3) := dk_180 0 163 (dk_at dksX1_replaceChild_0 13 rfl rfl)
theorem dX1_replaceChild_16 : decode cX1_replaceChild 16 = .ok (.aload_n 2, 1) := dk_44 (dk_at dksX1_replaceChild_0 16 rfl rfl)
theorem dX1_replaceChild_17 : decode cX1_replaceChild 17 = .ok (.if_acmp .ne 11, 3) := dk_166 0 11 (dk_at dksX1_replaceChild_0 17 rfl rfl)
theorem dX1_replaceChild_20 : decode cX1_replaceChild 20 = .ok (.aload_n 1, 1) := dk_43 (dk_at dksX1_replaceChild_0 20 rfl rfl)
theorem dX1_replaceChild_21 : decode cX1_replaceChild 21 = .ok (.aload_n 3, 1) := dk_45 (dk_at dksX1_replaceChild_0 21 rfl rfl)
theorem dX1_replaceChild_22 : decode cX1_replaceChild 22 = .ok (.putfield 163, 3) := dk_181 0 163 (dk_at dksX1_replaceChild_1 0 rfl rfl)
theorem dX1_replaceChild_25 : decode cX1_replaceChild 25 = .ok (.goto 8, 3) := dk_167 0 8 (dk_at dksX1_replaceChild_1 3 rfl rfl)
theorem dX1_replaceChild_28 : decode cX1_replaceChild 28 = .ok (.aload_n 1, 1) := dk_43 (dk_at dksX1_replaceChild_1 6 rfl rfl)
theorem dX1_replaceChild_29 : decode cX1_replaceChild 29 = .ok (.aload_n 3, 1) := dk_45 (dk_at dksX1_replaceChild_1 7 rfl rfl)
theorem dX1_replaceChild_30 : decode cX1_replaceChild 30 = .ok (.putfield 170, 3) := dk_181 0 170 (dk_at dksX1_replaceChild_1 8 rfl rfl)
theorem dX1_replaceChild_33 : decode cX1_replaceChild 33 = .ok (.aload_n 3, 1) := dk_45 (dk_at dksX1_replaceChild_1 11 rfl rfl)
theorem dX1_replaceChild_34 : decode cX1_replaceChild 34 = .ok (.ifnull 8, 3) := dk_198 0 8 (dk_at dksX1_replaceChild_1 12 rfl rfl)
theorem dX1_replaceChild_37 : decode cX1_replaceChild 37 = .ok (.aload_n 3, 1) := dk_45 (dk_at dksX1_replaceChild_1 15 rfl rfl)
theorem dX1_replaceChild_38 : decode cX1_replaceChild 38 = .ok (.aload_n 1, 1) := dk_43 (dk_at dksX1_replaceChild_1 16 rfl rfl)
theorem dX1_replaceChild_39 : decode cX1_replaceChild 39 = .ok (.putfield 137, 3) := dk_181 0 137 (dk_at dksX1_replaceChild_1 17 rfl rfl)
theorem dX1_replaceChild_42 : decode cX1_replaceChild 42 = .ok (.return_, 1) := dk_177 (dk_at dksX1_replaceChild_1 20 rfl rfl)
abbrev cX1_remove : ByteArray := prog_1_method_22_code
def yX1_remove : MethodName := ⟨RX1, "remove", "(I)I"⟩
def dkwX1_remove_0 : List UInt8 := [42, 42, 27, 182, 0, 238, 182, 0, 241, 172]
abbrev dktX1_remove_0 : List UInt8 := dkwX1_remove_0 ++ []
theorem dksX1_remove_0 : cX1_remove.data.toList.drop 0 = dktX1_remove_0 := by decide +kernel
theorem dX1_remove_0 : decode cX1_remove 0 = .ok (.aload_n 0, 1) := dk_42 (dk_at dksX1_remove_0 0 rfl rfl)
theorem dX1_remove_1 : decode cX1_remove 1 = .ok (.aload_n 0, 1) := dk_42 (dk_at dksX1_remove_0 1 rfl rfl)
theorem dX1_remove_2 : decode cX1_remove 2 = .ok (.iload_n 1, 1) := dk_27 (dk_at dksX1_remove_0 2 rfl rfl)
theorem dX1_remove_3 : decode cX1_remove 3 = .ok (.invokevirtual 238, 3) := dk_182 0 238 (dk_at dksX1_remove_0 3 rfl rfl)
theorem dX1_remove_6 : decode cX1_remove 6 = .ok (.invokevirtual 241, 3) := dk_182 0 241 (dk_at dksX1_remove_0 6 rfl rfl)
theorem dX1_remove_9 : decode cX1_remove 9 = .ok (.ireturn, 1) := dk_172 (dk_at dksX1_remove_0 9 rfl rfl)
abbrev cX1_liveNode : ByteArray := prog_1_method_7_code
def yX1_liveNode : MethodName := ⟨RX1, "liveNode", "(I)LIntervalTree$Node;"⟩
def dkwX1_liveNode_1 : List UInt8 := [176]
abbrev dktX1_liveNode_1 : List UInt8 := dkwX1_liveNode_1 ++ []
def dkwX1_liveNode_0 : List UInt8 := [42, 27, 182, 0, 125, 77, 44, 180, 0, 129, 153, 0, 13, 187, 0, 120, 89, 18, 133, 183, 0, 124, 191, 44]
abbrev dktX1_liveNode_0 : List UInt8 := dkwX1_liveNode_0 ++ dktX1_liveNode_1
theorem dksX1_liveNode_0 : cX1_liveNode.data.toList.drop 0 = dktX1_liveNode_0 := by decide +kernel
theorem dksX1_liveNode_1 : cX1_liveNode.data.toList.drop 24 = dktX1_liveNode_1 := dk_seg dksX1_liveNode_0 24 rfl rfl
theorem dX1_liveNode_0 : decode cX1_liveNode 0 = .ok (.aload_n 0, 1) := dk_42 (dk_at dksX1_liveNode_0 0 rfl rfl)
theorem dX1_liveNode_1 : decode cX1_liveNode 1 = .ok (.iload_n 1, 1) := dk_27 (dk_at dksX1_liveNode_0 1 rfl rfl)
theorem dX1_liveNode_2 : decode cX1_liveNode 2 = .ok (.invokevirtual 125, 3) := dk_182 0 125 (dk_at dksX1_liveNode_0 2 rfl rfl)
theorem dX1_liveNode_5 : decode cX1_liveNode 5 = .ok (.astore_n 2, 1) := dk_77 (dk_at dksX1_liveNode_0 5 rfl rfl)
theorem dX1_liveNode_6 : decode cX1_liveNode 6 = .ok (.aload_n 2, 1) := dk_44 (dk_at dksX1_liveNode_0 6 rfl rfl)
theorem dX1_liveNode_7 : decode cX1_liveNode 7 = .ok (.getfield 129, 3) := dk_180 0 129 (dk_at dksX1_liveNode_0 7 rfl rfl)
theorem dX1_liveNode_10 : decode cX1_liveNode 10 = .ok (.ifCond .eq 13, 3) := dk_153 0 13 (dk_at dksX1_liveNode_0 10 rfl rfl)
theorem dX1_liveNode_13 : decode cX1_liveNode 13 = .ok (.new 120, 3) := dk_187 0 120 (dk_at dksX1_liveNode_0 13 rfl rfl)
theorem dX1_liveNode_16 : decode cX1_liveNode 16 = .ok (.dup, 1) := dk_89 (dk_at dksX1_liveNode_0 16 rfl rfl)
theorem dX1_liveNode_17 : decode cX1_liveNode 17 = .ok (.ldc 133, 2) := dk_18 133 (dk_at dksX1_liveNode_0 17 rfl rfl)
theorem dX1_liveNode_19 : decode cX1_liveNode 19 = .ok (.invokespecial 124, 3) := dk_183 0 124 (dk_at dksX1_liveNode_0 19 rfl rfl)
theorem dX1_liveNode_22 : decode cX1_liveNode 22 = .ok (.athrow, 1) := dk_191 (dk_at dksX1_liveNode_0 22 rfl rfl)
theorem dX1_liveNode_23 : decode cX1_liveNode 23 = .ok (.aload_n 2, 1) := dk_44 (dk_at dksX1_liveNode_0 23 rfl rfl)
theorem dX1_liveNode_24 : decode cX1_liveNode 24 = .ok (.areturn, 1) := dk_176 (dk_at dksX1_liveNode_1 0 rfl rfl)
abbrev cX1_inTree : ByteArray := prog_1_method_6_code
def yX1_inTree : MethodName := ⟨RX1, "inTree", "(I)LIntervalTree$Node;"⟩
def dkwX1_inTree_1 : List UInt8 := [187, 0, 120, 89, 18, 122, 183, 0, 124, 191, 42, 180, 0, 14, 27, 50, 176]
abbrev dktX1_inTree_1 : List UInt8 := dkwX1_inTree_1 ++ []
def dkwX1_inTree_0 : List UInt8 := [27, 3, 42, 180, 0, 113, 4, 100, 184, 0, 116, 153, 0, 12, 42, 180, 0, 14, 27, 50, 199, 0, 13]
abbrev dktX1_inTree_0 : List UInt8 := dkwX1_inTree_0 ++ dktX1_inTree_1
theorem dksX1_inTree_0 : cX1_inTree.data.toList.drop 0 = dktX1_inTree_0 := by decide +kernel
theorem dksX1_inTree_1 : cX1_inTree.data.toList.drop 23 = dktX1_inTree_1 := dk_seg dksX1_inTree_0 23 rfl rfl
theorem dX1_inTree_0 : decode cX1_inTree 0 = .ok (.iload_n 1, 1) := dk_27 (dk_at dksX1_inTree_0 0 rfl rfl)
theorem dX1_inTree_1 : decode cX1_inTree 1 = .ok (.iconst 0, 1) := dk_3 (dk_at dksX1_inTree_0 1 rfl rfl)
theorem dX1_inTree_2 : decode cX1_inTree 2 = .ok (.aload_n 0, 1) := dk_42 (dk_at dksX1_inTree_0 2 rfl rfl)
theorem dX1_inTree_3 : decode cX1_inTree 3 = .ok (.getfield 113, 3) := dk_180 0 113 (dk_at dksX1_inTree_0 3 rfl rfl)
theorem dX1_inTree_6 : decode cX1_inTree 6 = .ok (.iconst 1, 1) := dk_4 (dk_at dksX1_inTree_0 6 rfl rfl)
theorem dX1_inTree_7 : decode cX1_inTree 7 = .ok (.isub, 1) := dk_100 (dk_at dksX1_inTree_0 7 rfl rfl)
theorem dX1_inTree_8 : decode cX1_inTree 8 = .ok (.invokestatic 116, 3) := dk_184 0 116 (dk_at dksX1_inTree_0 8 rfl rfl)
theorem dX1_inTree_11 : decode cX1_inTree 11 = .ok (.ifCond .eq 12, 3) := dk_153 0 12 (dk_at dksX1_inTree_0 11 rfl rfl)
theorem dX1_inTree_14 : decode cX1_inTree 14 = .ok (.aload_n 0, 1) := dk_42 (dk_at dksX1_inTree_0 14 rfl rfl)
theorem dX1_inTree_15 : decode cX1_inTree 15 = .ok (.getfield 14, 3) := dk_180 0 14 (dk_at dksX1_inTree_0 15 rfl rfl)
theorem dX1_inTree_18 : decode cX1_inTree 18 = .ok (.iload_n 1, 1) := dk_27 (dk_at dksX1_inTree_0 18 rfl rfl)
theorem dX1_inTree_19 : decode cX1_inTree 19 = .ok (.aaload, 1) := dk_50 (dk_at dksX1_inTree_0 19 rfl rfl)
theorem dX1_inTree_20 : decode cX1_inTree 20 = .ok (.ifnonnull 13, 3) := dk_199 0 13 (dk_at dksX1_inTree_0 20 rfl rfl)
theorem dX1_inTree_23 : decode cX1_inTree 23 = .ok (.new 120, 3) := dk_187 0 120 (dk_at dksX1_inTree_1 0 rfl rfl)
theorem dX1_inTree_26 : decode cX1_inTree 26 = .ok (.dup, 1) := dk_89 (dk_at dksX1_inTree_1 3 rfl rfl)
theorem dX1_inTree_27 : decode cX1_inTree 27 = .ok (.ldc 122, 2) := dk_18 122 (dk_at dksX1_inTree_1 4 rfl rfl)
theorem dX1_inTree_29 : decode cX1_inTree 29 = .ok (.invokespecial 124, 3) := dk_183 0 124 (dk_at dksX1_inTree_1 6 rfl rfl)
theorem dX1_inTree_32 : decode cX1_inTree 32 = .ok (.athrow, 1) := dk_191 (dk_at dksX1_inTree_1 9 rfl rfl)
theorem dX1_inTree_33 : decode cX1_inTree 33 = .ok (.aload_n 0, 1) := dk_42 (dk_at dksX1_inTree_1 10 rfl rfl)
theorem dX1_inTree_34 : decode cX1_inTree 34 = .ok (.getfield 14, 3) := dk_180 0 14 (dk_at dksX1_inTree_1 11 rfl rfl)
theorem dX1_inTree_37 : decode cX1_inTree 37 = .ok (.iload_n 1, 1) := dk_27 (dk_at dksX1_inTree_1 14 rfl rfl)
theorem dX1_inTree_38 : decode cX1_inTree 38 = .ok (.aaload, 1) := dk_50 (dk_at dksX1_inTree_1 15 rfl rfl)
theorem dX1_inTree_39 : decode cX1_inTree 39 = .ok (.areturn, 1) := dk_176 (dk_at dksX1_inTree_1 16 rfl rfl)
abbrev cX1_removeNode : ByteArray := prog_1_method_21_code
def yX1_removeNode : MethodName := ⟨RX1, "removeNode", "(LIntervalTree$Node;)I"⟩
def dkwX1_removeNode_1 : List UInt8 := [164, 0, 8, 42, 182, 0, 221, 87, 42, 180, 0, 210, 42, 180, 0, 213, 100, 172]
abbrev dktX1_removeNode_1 : List UInt8 := dkwX1_removeNode_1 ++ []
def dkwX1_removeNode_0 : List UInt8 := [42, 43, 4, 182, 0, 234, 16, 100, 42, 180, 0, 213, 104, 42, 180, 0, 97, 42, 180, 0, 210, 104]
abbrev dktX1_removeNode_0 : List UInt8 := dkwX1_removeNode_0 ++ dktX1_removeNode_1
theorem dksX1_removeNode_0 : cX1_removeNode.data.toList.drop 0 = dktX1_removeNode_0 := by decide +kernel
theorem dksX1_removeNode_1 : cX1_removeNode.data.toList.drop 22 = dktX1_removeNode_1 := dk_seg dksX1_removeNode_0 22 rfl rfl
theorem dX1_removeNode_0 : decode cX1_removeNode 0 = .ok (.aload_n 0, 1) := dk_42 (dk_at dksX1_removeNode_0 0 rfl rfl)
theorem dX1_removeNode_1 : decode cX1_removeNode 1 = .ok (.aload_n 1, 1) := dk_43 (dk_at dksX1_removeNode_0 1 rfl rfl)
theorem dX1_removeNode_2 : decode cX1_removeNode 2 = .ok (.iconst 1, 1) := dk_4 (dk_at dksX1_removeNode_0 2 rfl rfl)
theorem dX1_removeNode_3 : decode cX1_removeNode 3 = .ok (.invokevirtual 234, 3) := dk_182 0 234 (dk_at dksX1_removeNode_0 3 rfl rfl)
theorem dX1_removeNode_6 : decode cX1_removeNode 6 = .ok (.bipush 100, 2) := dk_16 100 (dk_at dksX1_removeNode_0 6 rfl rfl)
theorem dX1_removeNode_8 : decode cX1_removeNode 8 = .ok (.aload_n 0, 1) := dk_42 (dk_at dksX1_removeNode_0 8 rfl rfl)
theorem dX1_removeNode_9 : decode cX1_removeNode 9 = .ok (.getfield 213, 3) := dk_180 0 213 (dk_at dksX1_removeNode_0 9 rfl rfl)
theorem dX1_removeNode_12 : decode cX1_removeNode 12 = .ok (.imul, 1) := dk_104 (dk_at dksX1_removeNode_0 12 rfl rfl)
theorem dX1_removeNode_13 : decode cX1_removeNode 13 = .ok (.aload_n 0, 1) := dk_42 (dk_at dksX1_removeNode_0 13 rfl rfl)
theorem dX1_removeNode_14 : decode cX1_removeNode 14 = .ok (.getfield 97, 3) := dk_180 0 97 (dk_at dksX1_removeNode_0 14 rfl rfl)
theorem dX1_removeNode_17 : decode cX1_removeNode 17 = .ok (.aload_n 0, 1) := dk_42 (dk_at dksX1_removeNode_0 17 rfl rfl)
theorem dX1_removeNode_18 : decode cX1_removeNode 18 = .ok (.getfield 210, 3) := dk_180 0 210 (dk_at dksX1_removeNode_0 18 rfl rfl)
theorem dX1_removeNode_21 : decode cX1_removeNode 21 = .ok (.imul, 1) := dk_104 (dk_at dksX1_removeNode_0 21 rfl rfl)
theorem dX1_removeNode_22 : decode cX1_removeNode 22 = .ok (.if_icmp .le 8, 3) := dk_164 0 8 (dk_at dksX1_removeNode_1 0 rfl rfl)
theorem dX1_removeNode_25 : decode cX1_removeNode 25 = .ok (.aload_n 0, 1) := dk_42 (dk_at dksX1_removeNode_1 3 rfl rfl)
theorem dX1_removeNode_26 : decode cX1_removeNode 26 = .ok (.invokevirtual 221, 3) := dk_182 0 221 (dk_at dksX1_removeNode_1 4 rfl rfl)
theorem dX1_removeNode_29 : decode cX1_removeNode 29 = .ok (.pop, 1) := dk_87 (dk_at dksX1_removeNode_1 7 rfl rfl)
theorem dX1_removeNode_30 : decode cX1_removeNode 30 = .ok (.aload_n 0, 1) := dk_42 (dk_at dksX1_removeNode_1 8 rfl rfl)
theorem dX1_removeNode_31 : decode cX1_removeNode 31 = .ok (.getfield 210, 3) := dk_180 0 210 (dk_at dksX1_removeNode_1 9 rfl rfl)
theorem dX1_removeNode_34 : decode cX1_removeNode 34 = .ok (.aload_n 0, 1) := dk_42 (dk_at dksX1_removeNode_1 12 rfl rfl)
theorem dX1_removeNode_35 : decode cX1_removeNode 35 = .ok (.getfield 213, 3) := dk_180 0 213 (dk_at dksX1_removeNode_1 13 rfl rfl)
theorem dX1_removeNode_38 : decode cX1_removeNode 38 = .ok (.isub, 1) := dk_100 (dk_at dksX1_removeNode_1 16 rfl rfl)
theorem dX1_removeNode_39 : decode cX1_removeNode 39 = .ok (.ireturn, 1) := dk_172 (dk_at dksX1_removeNode_1 17 rfl rfl)
abbrev cX1_setRemoved : ByteArray := prog_1_method_20_code
def yX1_setRemoved : MethodName := ⟨RX1, "setRemoved", "(LIntervalTree$Node;Z)V"⟩
def dkwX1_setRemoved_1 : List UInt8 := [96, 181, 0, 213, 42, 43, 182, 0, 204, 177]
abbrev dktX1_setRemoved_1 : List UInt8 := dkwX1_setRemoved_1 ++ []
def dkwX1_setRemoved_0 : List UInt8 := [42, 43, 182, 0, 144, 43, 28, 181, 0, 129, 42, 89, 180, 0, 213, 28, 153, 0, 7, 4, 167, 0, 4, 2]
abbrev dktX1_setRemoved_0 : List UInt8 := dkwX1_setRemoved_0 ++ dktX1_setRemoved_1
theorem dksX1_setRemoved_0 : cX1_setRemoved.data.toList.drop 0 = dktX1_setRemoved_0 := by decide +kernel
theorem dksX1_setRemoved_1 : cX1_setRemoved.data.toList.drop 24 = dktX1_setRemoved_1 := dk_seg dksX1_setRemoved_0 24 rfl rfl
theorem dX1_setRemoved_0 : decode cX1_setRemoved 0 = .ok (.aload_n 0, 1) := dk_42 (dk_at dksX1_setRemoved_0 0 rfl rfl)
theorem dX1_setRemoved_1 : decode cX1_setRemoved 1 = .ok (.aload_n 1, 1) := dk_43 (dk_at dksX1_setRemoved_0 1 rfl rfl)
theorem dX1_setRemoved_2 : decode cX1_setRemoved 2 = .ok (.invokevirtual 144, 3) := dk_182 0 144 (dk_at dksX1_setRemoved_0 2 rfl rfl)
theorem dX1_setRemoved_5 : decode cX1_setRemoved 5 = .ok (.aload_n 1, 1) := dk_43 (dk_at dksX1_setRemoved_0 5 rfl rfl)
theorem dX1_setRemoved_6 : decode cX1_setRemoved 6 = .ok (.iload_n 2, 1) := dk_28 (dk_at dksX1_setRemoved_0 6 rfl rfl)
theorem dX1_setRemoved_7 : decode cX1_setRemoved 7 = .ok (.putfield 129, 3) := dk_181 0 129 (dk_at dksX1_setRemoved_0 7 rfl rfl)
theorem dX1_setRemoved_10 : decode cX1_setRemoved 10 = .ok (.aload_n 0, 1) := dk_42 (dk_at dksX1_setRemoved_0 10 rfl rfl)
theorem dX1_setRemoved_11 : decode cX1_setRemoved 11 = .ok (.dup, 1) := dk_89 (dk_at dksX1_setRemoved_0 11 rfl rfl)
theorem dX1_setRemoved_12 : decode cX1_setRemoved 12 = .ok (.getfield 213, 3) := dk_180 0 213 (dk_at dksX1_setRemoved_0 12 rfl rfl)
theorem dX1_setRemoved_15 : decode cX1_setRemoved 15 = .ok (.iload_n 2, 1) := dk_28 (dk_at dksX1_setRemoved_0 15 rfl rfl)
theorem dX1_setRemoved_16 : decode cX1_setRemoved 16 = .ok (.ifCond .eq 7, 3) := dk_153 0 7 (dk_at dksX1_setRemoved_0 16 rfl rfl)
theorem dX1_setRemoved_19 : decode cX1_setRemoved 19 = .ok (.iconst 1, 1) := dk_4 (dk_at dksX1_setRemoved_0 19 rfl rfl)
theorem dX1_setRemoved_20 : decode cX1_setRemoved 20 = .ok (.goto 4, 3) := dk_167 0 4 (dk_at dksX1_setRemoved_0 20 rfl rfl)
theorem dX1_setRemoved_23 : decode cX1_setRemoved 23 = .ok (.iconst (-1), 1) := dk_2 (dk_at dksX1_setRemoved_0 23 rfl rfl)
theorem dX1_setRemoved_24 : decode cX1_setRemoved 24 = .ok (.iadd, 1) := dk_96 (dk_at dksX1_setRemoved_1 0 rfl rfl)
theorem dX1_setRemoved_25 : decode cX1_setRemoved 25 = .ok (.putfield 213, 3) := dk_181 0 213 (dk_at dksX1_setRemoved_1 1 rfl rfl)
theorem dX1_setRemoved_28 : decode cX1_setRemoved 28 = .ok (.aload_n 0, 1) := dk_42 (dk_at dksX1_setRemoved_1 4 rfl rfl)
theorem dX1_setRemoved_29 : decode cX1_setRemoved 29 = .ok (.aload_n 1, 1) := dk_43 (dk_at dksX1_setRemoved_1 5 rfl rfl)
theorem dX1_setRemoved_30 : decode cX1_setRemoved 30 = .ok (.invokevirtual 204, 3) := dk_182 0 204 (dk_at dksX1_setRemoved_1 6 rfl rfl)
theorem dX1_setRemoved_33 : decode cX1_setRemoved 33 = .ok (.return_, 1) := dk_177 (dk_at dksX1_setRemoved_1 9 rfl rfl)
abbrev cX1_pushPath : ByteArray := prog_1_method_9_code
def yX1_pushPath : MethodName := ⟨RX1, "pushPath", "(LIntervalTree$Node;)V"⟩
def dkwX1_pushPath_0 : List UInt8 := [43, 180, 0, 137, 198, 0, 11, 42, 43, 180, 0, 137, 182, 0, 144, 43, 182, 0, 148, 177]
abbrev dktX1_pushPath_0 : List UInt8 := dkwX1_pushPath_0 ++ []
theorem dksX1_pushPath_0 : cX1_pushPath.data.toList.drop 0 = dktX1_pushPath_0 := by decide +kernel
theorem dX1_pushPath_0 : decode cX1_pushPath 0 = .ok (.aload_n 1, 1) := dk_43 (dk_at dksX1_pushPath_0 0 rfl rfl)
theorem dX1_pushPath_1 : decode cX1_pushPath 1 = .ok (.getfield 137, 3) := dk_180 0 137 (dk_at dksX1_pushPath_0 1 rfl rfl)
theorem dX1_pushPath_4 : decode cX1_pushPath 4 = .ok (.ifnull 11, 3) := dk_198 0 11 (dk_at dksX1_pushPath_0 4 rfl rfl)
theorem dX1_pushPath_7 : decode cX1_pushPath 7 = .ok (.aload_n 0, 1) := dk_42 (dk_at dksX1_pushPath_0 7 rfl rfl)
theorem dX1_pushPath_8 : decode cX1_pushPath 8 = .ok (.aload_n 1, 1) := dk_43 (dk_at dksX1_pushPath_0 8 rfl rfl)
theorem dX1_pushPath_9 : decode cX1_pushPath 9 = .ok (.getfield 137, 3) := dk_180 0 137 (dk_at dksX1_pushPath_0 9 rfl rfl)
theorem dX1_pushPath_12 : decode cX1_pushPath 12 = .ok (.invokevirtual 144, 3) := dk_182 0 144 (dk_at dksX1_pushPath_0 12 rfl rfl)
theorem dX1_pushPath_15 : decode cX1_pushPath 15 = .ok (.aload_n 1, 1) := dk_43 (dk_at dksX1_pushPath_0 15 rfl rfl)
theorem dX1_pushPath_16 : decode cX1_pushPath 16 = .ok (.invokevirtual 148, 3) := dk_182 0 148 (dk_at dksX1_pushPath_0 16 rfl rfl)
theorem dX1_pushPath_19 : decode cX1_pushPath 19 = .ok (.return_, 1) := dk_177 (dk_at dksX1_pushPath_0 19 rfl rfl)
abbrev cX1_restore : ByteArray := prog_1_method_23_code
def yX1_restore : MethodName := ⟨RX1, "restore", "(I)I"⟩
def dkwX1_restore_2 : List UInt8 := [183, 0, 220, 191, 42, 44, 3, 182, 0, 234, 42, 180, 0, 210, 42, 180, 0, 213, 100, 172]
abbrev dktX1_restore_2 : List UInt8 := dkwX1_restore_2 ++ []
def dkwX1_restore_1 : List UInt8 := [42, 180, 0, 14, 27, 50, 77, 44, 198, 0, 10, 44, 180, 0, 129, 154, 0, 13, 187, 0, 216, 89, 18, 247]
abbrev dktX1_restore_1 : List UInt8 := dkwX1_restore_1 ++ dktX1_restore_2
def dkwX1_restore_0 : List UInt8 := [27, 3, 42, 180, 0, 113, 4, 100, 184, 0, 116, 154, 0, 13, 187, 0, 120, 89, 18, 245, 183, 0, 124, 191]
abbrev dktX1_restore_0 : List UInt8 := dkwX1_restore_0 ++ dktX1_restore_1
theorem dksX1_restore_0 : cX1_restore.data.toList.drop 0 = dktX1_restore_0 := by decide +kernel
theorem dksX1_restore_1 : cX1_restore.data.toList.drop 24 = dktX1_restore_1 := dk_seg dksX1_restore_0 24 rfl rfl
theorem dksX1_restore_2 : cX1_restore.data.toList.drop 48 = dktX1_restore_2 := dk_seg dksX1_restore_1 24 rfl rfl
theorem dX1_restore_0 : decode cX1_restore 0 = .ok (.iload_n 1, 1) := dk_27 (dk_at dksX1_restore_0 0 rfl rfl)
theorem dX1_restore_1 : decode cX1_restore 1 = .ok (.iconst 0, 1) := dk_3 (dk_at dksX1_restore_0 1 rfl rfl)
theorem dX1_restore_2 : decode cX1_restore 2 = .ok (.aload_n 0, 1) := dk_42 (dk_at dksX1_restore_0 2 rfl rfl)
theorem dX1_restore_3 : decode cX1_restore 3 = .ok (.getfield 113, 3) := dk_180 0 113 (dk_at dksX1_restore_0 3 rfl rfl)
theorem dX1_restore_6 : decode cX1_restore 6 = .ok (.iconst 1, 1) := dk_4 (dk_at dksX1_restore_0 6 rfl rfl)
theorem dX1_restore_7 : decode cX1_restore 7 = .ok (.isub, 1) := dk_100 (dk_at dksX1_restore_0 7 rfl rfl)
theorem dX1_restore_8 : decode cX1_restore 8 = .ok (.invokestatic 116, 3) := dk_184 0 116 (dk_at dksX1_restore_0 8 rfl rfl)
theorem dX1_restore_11 : decode cX1_restore 11 = .ok (.ifCond .ne 13, 3) := dk_154 0 13 (dk_at dksX1_restore_0 11 rfl rfl)
theorem dX1_restore_14 : decode cX1_restore 14 = .ok (.new 120, 3) := dk_187 0 120 (dk_at dksX1_restore_0 14 rfl rfl)
theorem dX1_restore_17 : decode cX1_restore 17 = .ok (.dup, 1) := dk_89 (dk_at dksX1_restore_0 17 rfl rfl)
theorem dX1_restore_18 : decode cX1_restore 18 = .ok (.ldc 245, 2) := dk_18 245 (dk_at dksX1_restore_0 18 rfl rfl)
theorem dX1_restore_20 : decode cX1_restore 20 = .ok (.invokespecial 124, 3) := dk_183 0 124 (dk_at dksX1_restore_0 20 rfl rfl)
theorem dX1_restore_23 : decode cX1_restore 23 = .ok (.athrow, 1) := dk_191 (dk_at dksX1_restore_0 23 rfl rfl)
theorem dX1_restore_24 : decode cX1_restore 24 = .ok (.aload_n 0, 1) := dk_42 (dk_at dksX1_restore_1 0 rfl rfl)
theorem dX1_restore_25 : decode cX1_restore 25 = .ok (.getfield 14, 3) := dk_180 0 14 (dk_at dksX1_restore_1 1 rfl rfl)
theorem dX1_restore_28 : decode cX1_restore 28 = .ok (.iload_n 1, 1) := dk_27 (dk_at dksX1_restore_1 4 rfl rfl)
theorem dX1_restore_29 : decode cX1_restore 29 = .ok (.aaload, 1) := dk_50 (dk_at dksX1_restore_1 5 rfl rfl)
theorem dX1_restore_30 : decode cX1_restore 30 = .ok (.astore_n 2, 1) := dk_77 (dk_at dksX1_restore_1 6 rfl rfl)
theorem dX1_restore_31 : decode cX1_restore 31 = .ok (.aload_n 2, 1) := dk_44 (dk_at dksX1_restore_1 7 rfl rfl)
theorem dX1_restore_32 : decode cX1_restore 32 = .ok (.ifnull 10, 3) := dk_198 0 10 (dk_at dksX1_restore_1 8 rfl rfl)
theorem dX1_restore_35 : decode cX1_restore 35 = .ok (.aload_n 2, 1) := dk_44 (dk_at dksX1_restore_1 11 rfl rfl)
theorem dX1_restore_36 : decode cX1_restore 36 = .ok (.getfield 129, 3) := dk_180 0 129 (dk_at dksX1_restore_1 12 rfl rfl)
theorem dX1_restore_39 : decode cX1_restore 39 = .ok (.ifCond .ne 13, 3) := dk_154 0 13 (dk_at dksX1_restore_1 15 rfl rfl)
theorem dX1_restore_42 : decode cX1_restore 42 = .ok (.new 216, 3) := dk_187 0 216 (dk_at dksX1_restore_1 18 rfl rfl)
theorem dX1_restore_45 : decode cX1_restore 45 = .ok (.dup, 1) := dk_89 (dk_at dksX1_restore_1 21 rfl rfl)
theorem dX1_restore_46 : decode cX1_restore 46 = .ok (.ldc 247, 2) := dk_18 247 (dk_at dksX1_restore_1 22 rfl rfl)
theorem dX1_restore_48 : decode cX1_restore 48 = .ok (.invokespecial 220, 3) := dk_183 0 220 (dk_at dksX1_restore_2 0 rfl rfl)
theorem dX1_restore_51 : decode cX1_restore 51 = .ok (.athrow, 1) := dk_191 (dk_at dksX1_restore_2 3 rfl rfl)
theorem dX1_restore_52 : decode cX1_restore 52 = .ok (.aload_n 0, 1) := dk_42 (dk_at dksX1_restore_2 4 rfl rfl)
theorem dX1_restore_53 : decode cX1_restore 53 = .ok (.aload_n 2, 1) := dk_44 (dk_at dksX1_restore_2 5 rfl rfl)
theorem dX1_restore_54 : decode cX1_restore 54 = .ok (.iconst 0, 1) := dk_3 (dk_at dksX1_restore_2 6 rfl rfl)
theorem dX1_restore_55 : decode cX1_restore 55 = .ok (.invokevirtual 234, 3) := dk_182 0 234 (dk_at dksX1_restore_2 7 rfl rfl)
theorem dX1_restore_58 : decode cX1_restore 58 = .ok (.aload_n 0, 1) := dk_42 (dk_at dksX1_restore_2 10 rfl rfl)
theorem dX1_restore_59 : decode cX1_restore 59 = .ok (.getfield 210, 3) := dk_180 0 210 (dk_at dksX1_restore_2 11 rfl rfl)
theorem dX1_restore_62 : decode cX1_restore 62 = .ok (.aload_n 0, 1) := dk_42 (dk_at dksX1_restore_2 14 rfl rfl)
theorem dX1_restore_63 : decode cX1_restore 63 = .ok (.getfield 213, 3) := dk_180 0 213 (dk_at dksX1_restore_2 15 rfl rfl)
theorem dX1_restore_66 : decode cX1_restore 66 = .ok (.isub, 1) := dk_100 (dk_at dksX1_restore_2 18 rfl rfl)
theorem dX1_restore_67 : decode cX1_restore 67 = .ok (.ireturn, 1) := dk_172 (dk_at dksX1_restore_2 19 rfl rfl)
abbrev cX1_setRebuildPercentage : ByteArray := prog_1_method_30_code
def yX1_setRebuildPercentage : MethodName := ⟨RX1, "setRebuildPercentage", "(I)I"⟩
def dkwX1_setRebuildPercentage_0 : List UInt8 := [27, 16, 10, 16, 100, 184, 0, 116, 184, 0, 179, 42, 180, 0, 97, 61, 42, 27, 181, 0, 97, 28, 172]
abbrev dktX1_setRebuildPercentage_0 : List UInt8 := dkwX1_setRebuildPercentage_0 ++ []
theorem dksX1_setRebuildPercentage_0 : cX1_setRebuildPercentage.data.toList.drop 0 = dktX1_setRebuildPercentage_0 := by decide +kernel
theorem dX1_setRebuildPercentage_0 : decode cX1_setRebuildPercentage 0 = .ok (.iload_n 1, 1) := dk_27 (dk_at dksX1_setRebuildPercentage_0 0 rfl rfl)
theorem dX1_setRebuildPercentage_1 : decode cX1_setRebuildPercentage 1 = .ok (.bipush 10, 2) := dk_16 10 (dk_at dksX1_setRebuildPercentage_0 1 rfl rfl)
theorem dX1_setRebuildPercentage_3 : decode cX1_setRebuildPercentage 3 = .ok (.bipush 100, 2) := dk_16 100 (dk_at dksX1_setRebuildPercentage_0 3 rfl rfl)
theorem dX1_setRebuildPercentage_5 : decode cX1_setRebuildPercentage 5 = .ok (.invokestatic 116, 3) := dk_184 0 116 (dk_at dksX1_setRebuildPercentage_0 5 rfl rfl)
theorem dX1_setRebuildPercentage_8 : decode cX1_setRebuildPercentage 8 = .ok (.invokestatic 179, 3) := dk_184 0 179 (dk_at dksX1_setRebuildPercentage_0 8 rfl rfl)
theorem dX1_setRebuildPercentage_11 : decode cX1_setRebuildPercentage 11 = .ok (.aload_n 0, 1) := dk_42 (dk_at dksX1_setRebuildPercentage_0 11 rfl rfl)
theorem dX1_setRebuildPercentage_12 : decode cX1_setRebuildPercentage 12 = .ok (.getfield 97, 3) := dk_180 0 97 (dk_at dksX1_setRebuildPercentage_0 12 rfl rfl)
theorem dX1_setRebuildPercentage_15 : decode cX1_setRebuildPercentage 15 = .ok (.istore_n 2, 1) := dk_61 (dk_at dksX1_setRebuildPercentage_0 15 rfl rfl)
theorem dX1_setRebuildPercentage_16 : decode cX1_setRebuildPercentage 16 = .ok (.aload_n 0, 1) := dk_42 (dk_at dksX1_setRebuildPercentage_0 16 rfl rfl)
theorem dX1_setRebuildPercentage_17 : decode cX1_setRebuildPercentage 17 = .ok (.iload_n 1, 1) := dk_27 (dk_at dksX1_setRebuildPercentage_0 17 rfl rfl)
theorem dX1_setRebuildPercentage_18 : decode cX1_setRebuildPercentage 18 = .ok (.putfield 97, 3) := dk_181 0 97 (dk_at dksX1_setRebuildPercentage_0 18 rfl rfl)
theorem dX1_setRebuildPercentage_21 : decode cX1_setRebuildPercentage 21 = .ok (.iload_n 2, 1) := dk_28 (dk_at dksX1_setRebuildPercentage_0 21 rfl rfl)
theorem dX1_setRebuildPercentage_22 : decode cX1_setRebuildPercentage 22 = .ok (.ireturn, 1) := dk_172 (dk_at dksX1_setRebuildPercentage_0 22 rfl rfl)
abbrev cX1_addWeight : ByteArray := prog_1_method_13_code
def yX1_addWeight : MethodName := ⟨RX1, "addWeight", "(III)I"⟩
def dkwX1_addWeight_2 : List UInt8 := [133, 182, 0, 183, 100, 172]
abbrev dktX1_addWeight_2 : List UInt8 := dkwX1_addWeight_2 ++ []
def dkwX1_addWeight_1 : List UInt8 := [184, 0, 179, 42, 42, 180, 0, 173, 27, 28, 29, 182, 0, 166, 42, 28, 133, 10, 97, 182, 0, 183, 42, 27]
abbrev dktX1_addWeight_1 : List UInt8 := dkwX1_addWeight_1 ++ dktX1_addWeight_2
def dkwX1_addWeight_0 : List UInt8 := [27, 28, 163, 0, 20, 29, 17, 252, 24, 17, 3, 232, 184, 0, 116, 153, 0, 7, 4, 167, 0, 4, 3]
abbrev dktX1_addWeight_0 : List UInt8 := dkwX1_addWeight_0 ++ dktX1_addWeight_1
theorem dksX1_addWeight_0 : cX1_addWeight.data.toList.drop 0 = dktX1_addWeight_0 := by decide +kernel
theorem dksX1_addWeight_1 : cX1_addWeight.data.toList.drop 23 = dktX1_addWeight_1 := dk_seg dksX1_addWeight_0 23 rfl rfl
theorem dksX1_addWeight_2 : cX1_addWeight.data.toList.drop 47 = dktX1_addWeight_2 := dk_seg dksX1_addWeight_1 24 rfl rfl
theorem dX1_addWeight_0 : decode cX1_addWeight 0 = .ok (.iload_n 1, 1) := dk_27 (dk_at dksX1_addWeight_0 0 rfl rfl)
theorem dX1_addWeight_1 : decode cX1_addWeight 1 = .ok (.iload_n 2, 1) := dk_28 (dk_at dksX1_addWeight_0 1 rfl rfl)
theorem dX1_addWeight_2 : decode cX1_addWeight 2 = .ok (.if_icmp .gt 20, 3) := dk_163 0 20 (dk_at dksX1_addWeight_0 2 rfl rfl)
theorem dX1_addWeight_5 : decode cX1_addWeight 5 = .ok (.iload_n 3, 1) := dk_29 (dk_at dksX1_addWeight_0 5 rfl rfl)
theorem dX1_addWeight_6 : decode cX1_addWeight 6 = .ok (.sipush (-1000), 3) := dk_17 252 24 (dk_at dksX1_addWeight_0 6 rfl rfl)
theorem dX1_addWeight_9 : decode cX1_addWeight 9 = .ok (.sipush 1000, 3) := dk_17 3 232 (dk_at dksX1_addWeight_0 9 rfl rfl)
theorem dX1_addWeight_12 : decode cX1_addWeight 12 = .ok (.invokestatic 116, 3) := dk_184 0 116 (dk_at dksX1_addWeight_0 12 rfl rfl)
theorem dX1_addWeight_15 : decode cX1_addWeight 15 = .ok (.ifCond .eq 7, 3) := dk_153 0 7 (dk_at dksX1_addWeight_0 15 rfl rfl)
theorem dX1_addWeight_18 : decode cX1_addWeight 18 = .ok (.iconst 1, 1) := dk_4 (dk_at dksX1_addWeight_0 18 rfl rfl)
theorem dX1_addWeight_19 : decode cX1_addWeight 19 = .ok (.goto 4, 3) := dk_167 0 4 (dk_at dksX1_addWeight_0 19 rfl rfl)
theorem dX1_addWeight_22 : decode cX1_addWeight 22 = .ok (.iconst 0, 1) := dk_3 (dk_at dksX1_addWeight_0 22 rfl rfl)
theorem dX1_addWeight_23 : decode cX1_addWeight 23 = .ok (.invokestatic 179, 3) := dk_184 0 179 (dk_at dksX1_addWeight_1 0 rfl rfl)
theorem dX1_addWeight_26 : decode cX1_addWeight 26 = .ok (.aload_n 0, 1) := dk_42 (dk_at dksX1_addWeight_1 3 rfl rfl)
theorem dX1_addWeight_27 : decode cX1_addWeight 27 = .ok (.aload_n 0, 1) := dk_42 (dk_at dksX1_addWeight_1 4 rfl rfl)
theorem dX1_addWeight_28 : decode cX1_addWeight 28 = .ok (.getfield 173, 3) := dk_180 0 173 (dk_at dksX1_addWeight_1 5 rfl rfl)
theorem dX1_addWeight_31 : decode cX1_addWeight 31 = .ok (.iload_n 1, 1) := dk_27 (dk_at dksX1_addWeight_1 8 rfl rfl)
theorem dX1_addWeight_32 : decode cX1_addWeight 32 = .ok (.iload_n 2, 1) := dk_28 (dk_at dksX1_addWeight_1 9 rfl rfl)
theorem dX1_addWeight_33 : decode cX1_addWeight 33 = .ok (.iload_n 3, 1) := dk_29 (dk_at dksX1_addWeight_1 10 rfl rfl)
theorem dX1_addWeight_34 : decode cX1_addWeight 34 = .ok (.invokevirtual 166, 3) := dk_182 0 166 (dk_at dksX1_addWeight_1 11 rfl rfl)
theorem dX1_addWeight_37 : decode cX1_addWeight 37 = .ok (.aload_n 0, 1) := dk_42 (dk_at dksX1_addWeight_1 14 rfl rfl)
theorem dX1_addWeight_38 : decode cX1_addWeight 38 = .ok (.iload_n 2, 1) := dk_28 (dk_at dksX1_addWeight_1 15 rfl rfl)
theorem dX1_addWeight_39 : decode cX1_addWeight 39 = .ok (.i2l, 1) := dk_133 (dk_at dksX1_addWeight_1 16 rfl rfl)
theorem dX1_addWeight_40 : decode cX1_addWeight 40 = .ok (.lconst 1, 1) := dk_10 (dk_at dksX1_addWeight_1 17 rfl rfl)
theorem dX1_addWeight_41 : decode cX1_addWeight 41 = .ok (.ladd, 1) := dk_97 (dk_at dksX1_addWeight_1 18 rfl rfl)
theorem dX1_addWeight_42 : decode cX1_addWeight 42 = .ok (.invokevirtual 183, 3) := dk_182 0 183 (dk_at dksX1_addWeight_1 19 rfl rfl)
theorem dX1_addWeight_45 : decode cX1_addWeight 45 = .ok (.aload_n 0, 1) := dk_42 (dk_at dksX1_addWeight_1 22 rfl rfl)
theorem dX1_addWeight_46 : decode cX1_addWeight 46 = .ok (.iload_n 1, 1) := dk_27 (dk_at dksX1_addWeight_1 23 rfl rfl)
theorem dX1_addWeight_47 : decode cX1_addWeight 47 = .ok (.i2l, 1) := dk_133 (dk_at dksX1_addWeight_2 0 rfl rfl)
theorem dX1_addWeight_48 : decode cX1_addWeight 48 = .ok (.invokevirtual 183, 3) := dk_182 0 183 (dk_at dksX1_addWeight_2 1 rfl rfl)
theorem dX1_addWeight_51 : decode cX1_addWeight 51 = .ok (.isub, 1) := dk_100 (dk_at dksX1_addWeight_2 4 rfl rfl)
theorem dX1_addWeight_52 : decode cX1_addWeight 52 = .ok (.ireturn, 1) := dk_172 (dk_at dksX1_addWeight_2 5 rfl rfl)
abbrev cX1_addInRange : ByteArray := prog_1_method_11_code
def yX1_addInRange : MethodName := ⟨RX1, "addInRange", "(LIntervalTree$Node;III)V"⟩
def dkwX1_addInRange_4 : List UInt8 := [182, 0, 166, 43, 182, 0, 151, 177]
abbrev dktX1_addInRange_4 : List UInt8 := dkwX1_addInRange_4 ++ []
def dkwX1_addInRange_3 : List UInt8 := [181, 0, 134, 42, 43, 180, 0, 163, 28, 29, 21, 4, 182, 0, 166, 42, 43, 180, 0, 170, 28, 29, 21, 4]
abbrev dktX1_addInRange_3 : List UInt8 := dkwX1_addInRange_3 ++ dktX1_addInRange_4
def dkwX1_addInRange_2 : List UInt8 := [182, 0, 148, 43, 180, 0, 107, 28, 29, 184, 0, 116, 153, 0, 14, 43, 89, 180, 0, 134, 21, 4, 96]
abbrev dktX1_addInRange_2 : List UInt8 := dkwX1_addInRange_2 ++ dktX1_addInRange_3
def dkwX1_addInRange_1 : List UInt8 := [180, 0, 157, 28, 161, 0, 18, 43, 180, 0, 154, 29, 163, 0, 10, 43, 21, 4, 182, 0, 160, 177, 43]
abbrev dktX1_addInRange_1 : List UInt8 := dkwX1_addInRange_1 ++ dktX1_addInRange_2
def dkwX1_addInRange_0 : List UInt8 := [43, 198, 0, 19, 43, 180, 0, 154, 28, 161, 0, 11, 43, 180, 0, 157, 29, 164, 0, 4, 177, 43]
abbrev dktX1_addInRange_0 : List UInt8 := dkwX1_addInRange_0 ++ dktX1_addInRange_1
theorem dksX1_addInRange_0 : cX1_addInRange.data.toList.drop 0 = dktX1_addInRange_0 := by decide +kernel
theorem dksX1_addInRange_1 : cX1_addInRange.data.toList.drop 22 = dktX1_addInRange_1 := dk_seg dksX1_addInRange_0 22 rfl rfl
theorem dksX1_addInRange_2 : cX1_addInRange.data.toList.drop 45 = dktX1_addInRange_2 := dk_seg dksX1_addInRange_1 23 rfl rfl
theorem dksX1_addInRange_3 : cX1_addInRange.data.toList.drop 68 = dktX1_addInRange_3 := dk_seg dksX1_addInRange_2 23 rfl rfl
theorem dksX1_addInRange_4 : cX1_addInRange.data.toList.drop 92 = dktX1_addInRange_4 := dk_seg dksX1_addInRange_3 24 rfl rfl
theorem dX1_addInRange_0 : decode cX1_addInRange 0 = .ok (.aload_n 1, 1) := dk_43 (dk_at dksX1_addInRange_0 0 rfl rfl)
theorem dX1_addInRange_1 : decode cX1_addInRange 1 = .ok (.ifnull 19, 3) := dk_198 0 19 (dk_at dksX1_addInRange_0 1 rfl rfl)
theorem dX1_addInRange_4 : decode cX1_addInRange 4 = .ok (.aload_n 1, 1) := dk_43 (dk_at dksX1_addInRange_0 4 rfl rfl)
theorem dX1_addInRange_5 : decode cX1_addInRange 5 = .ok (.getfield 154, 3) := dk_180 0 154 (dk_at dksX1_addInRange_0 5 rfl rfl)
theorem dX1_addInRange_8 : decode cX1_addInRange 8 = .ok (.iload_n 2, 1) := dk_28 (dk_at dksX1_addInRange_0 8 rfl rfl)
theorem dX1_addInRange_9 : decode cX1_addInRange 9 = .ok (.if_icmp .lt 11, 3) := dk_161 0 11 (dk_at dksX1_addInRange_0 9 rfl rfl)
theorem dX1_addInRange_12 : decode cX1_addInRange 12 = .ok (.aload_n 1, 1) := dk_43 (dk_at dksX1_addInRange_0 12 rfl rfl)
theorem dX1_addInRange_13 : decode cX1_addInRange 13 = .ok (.getfield 157, 3) := dk_180 0 157 (dk_at dksX1_addInRange_0 13 rfl rfl)
theorem dX1_addInRange_16 : decode cX1_addInRange 16 = .ok (.iload_n 3, 1) := dk_29 (dk_at dksX1_addInRange_0 16 rfl rfl)
theorem dX1_addInRange_17 : decode cX1_addInRange 17 = .ok (.if_icmp .le 4, 3) := dk_164 0 4 (dk_at dksX1_addInRange_0 17 rfl rfl)
theorem dX1_addInRange_20 : decode cX1_addInRange 20 = .ok (.return_, 1) := dk_177 (dk_at dksX1_addInRange_0 20 rfl rfl)
theorem dX1_addInRange_21 : decode cX1_addInRange 21 = .ok (.aload_n 1, 1) := dk_43 (dk_at dksX1_addInRange_0 21 rfl rfl)
theorem dX1_addInRange_22 : decode cX1_addInRange 22 = .ok (.getfield 157, 3) := dk_180 0 157 (dk_at dksX1_addInRange_1 0 rfl rfl)
theorem dX1_addInRange_25 : decode cX1_addInRange 25 = .ok (.iload_n 2, 1) := dk_28 (dk_at dksX1_addInRange_1 3 rfl rfl)
theorem dX1_addInRange_26 : decode cX1_addInRange 26 = .ok (.if_icmp .lt 18, 3) := dk_161 0 18 (dk_at dksX1_addInRange_1 4 rfl rfl)
theorem dX1_addInRange_29 : decode cX1_addInRange 29 = .ok (.aload_n 1, 1) := dk_43 (dk_at dksX1_addInRange_1 7 rfl rfl)
theorem dX1_addInRange_30 : decode cX1_addInRange 30 = .ok (.getfield 154, 3) := dk_180 0 154 (dk_at dksX1_addInRange_1 8 rfl rfl)
theorem dX1_addInRange_33 : decode cX1_addInRange 33 = .ok (.iload_n 3, 1) := dk_29 (dk_at dksX1_addInRange_1 11 rfl rfl)
theorem dX1_addInRange_34 : decode cX1_addInRange 34 = .ok (.if_icmp .gt 10, 3) := dk_163 0 10 (dk_at dksX1_addInRange_1 12 rfl rfl)
theorem dX1_addInRange_37 : decode cX1_addInRange 37 = .ok (.aload_n 1, 1) := dk_43 (dk_at dksX1_addInRange_1 15 rfl rfl)
theorem dX1_addInRange_38 : decode cX1_addInRange 38 = .ok (.iload 4, 2) := dk_21 4 (dk_at dksX1_addInRange_1 16 rfl rfl)
theorem dX1_addInRange_40 : decode cX1_addInRange 40 = .ok (.invokevirtual 160, 3) := dk_182 0 160 (dk_at dksX1_addInRange_1 18 rfl rfl)
theorem dX1_addInRange_43 : decode cX1_addInRange 43 = .ok (.return_, 1) := dk_177 (dk_at dksX1_addInRange_1 21 rfl rfl)
theorem dX1_addInRange_44 : decode cX1_addInRange 44 = .ok (.aload_n 1, 1) := dk_43 (dk_at dksX1_addInRange_1 22 rfl rfl)
theorem dX1_addInRange_45 : decode cX1_addInRange 45 = .ok (.invokevirtual 148, 3) := dk_182 0 148 (dk_at dksX1_addInRange_2 0 rfl rfl)
theorem dX1_addInRange_48 : decode cX1_addInRange 48 = .ok (.aload_n 1, 1) := dk_43 (dk_at dksX1_addInRange_2 3 rfl rfl)
theorem dX1_addInRange_49 : decode cX1_addInRange 49 = .ok (.getfield 107, 3) := dk_180 0 107 (dk_at dksX1_addInRange_2 4 rfl rfl)
theorem dX1_addInRange_52 : decode cX1_addInRange 52 = .ok (.iload_n 2, 1) := dk_28 (dk_at dksX1_addInRange_2 7 rfl rfl)
theorem dX1_addInRange_53 : decode cX1_addInRange 53 = .ok (.iload_n 3, 1) := dk_29 (dk_at dksX1_addInRange_2 8 rfl rfl)
theorem dX1_addInRange_54 : decode cX1_addInRange 54 = .ok (.invokestatic 116, 3) := dk_184 0 116 (dk_at dksX1_addInRange_2 9 rfl rfl)
theorem dX1_addInRange_57 : decode cX1_addInRange 57 = .ok (.ifCond .eq 14, 3) := dk_153 0 14 (dk_at dksX1_addInRange_2 12 rfl rfl)
theorem dX1_addInRange_60 : decode cX1_addInRange 60 = .ok (.aload_n 1, 1) := dk_43 (dk_at dksX1_addInRange_2 15 rfl rfl)
theorem dX1_addInRange_61 : decode cX1_addInRange 61 = .ok (.dup, 1) := dk_89 (dk_at dksX1_addInRange_2 16 rfl rfl)
theorem dX1_addInRange_62 : decode cX1_addInRange 62 = .ok (.getfield 134, 3) := dk_180 0 134 (dk_at dksX1_addInRange_2 17 rfl rfl)
theorem dX1_addInRange_65 : decode cX1_addInRange 65 = .ok (.iload 4, 2) := dk_21 4 (dk_at dksX1_addInRange_2 20 rfl rfl)
theorem dX1_addInRange_67 : decode cX1_addInRange 67 = .ok (.iadd, 1) := dk_96 (dk_at dksX1_addInRange_2 22 rfl rfl)
theorem dX1_addInRange_68 : decode cX1_addInRange 68 = .ok (.putfield 134, 3) := dk_181 0 134 (dk_at dksX1_addInRange_3 0 rfl rfl)
theorem dX1_addInRange_71 : decode cX1_addInRange 71 = .ok (.aload_n 0, 1) := dk_42 (dk_at dksX1_addInRange_3 3 rfl rfl)
theorem dX1_addInRange_72 : decode cX1_addInRange 72 = .ok (.aload_n 1, 1) := dk_43 (dk_at dksX1_addInRange_3 4 rfl rfl)
theorem dX1_addInRange_73 : decode cX1_addInRange 73 = .ok (.getfield 163, 3) := dk_180 0 163 (dk_at dksX1_addInRange_3 5 rfl rfl)
theorem dX1_addInRange_76 : decode cX1_addInRange 76 = .ok (.iload_n 2, 1) := dk_28 (dk_at dksX1_addInRange_3 8 rfl rfl)
theorem dX1_addInRange_77 : decode cX1_addInRange 77 = .ok (.iload_n 3, 1) := dk_29 (dk_at dksX1_addInRange_3 9 rfl rfl)
theorem dX1_addInRange_78 : decode cX1_addInRange 78 = .ok (.iload 4, 2) := dk_21 4 (dk_at dksX1_addInRange_3 10 rfl rfl)
theorem dX1_addInRange_80 : decode cX1_addInRange 80 = .ok (.invokevirtual 166, 3) := dk_182 0 166 (dk_at dksX1_addInRange_3 12 rfl rfl)
theorem dX1_addInRange_83 : decode cX1_addInRange 83 = .ok (.aload_n 0, 1) := dk_42 (dk_at dksX1_addInRange_3 15 rfl rfl)
theorem dX1_addInRange_84 : decode cX1_addInRange 84 = .ok (.aload_n 1, 1) := dk_43 (dk_at dksX1_addInRange_3 16 rfl rfl)
theorem dX1_addInRange_85 : decode cX1_addInRange 85 = .ok (.getfield 170, 3) := dk_180 0 170 (dk_at dksX1_addInRange_3 17 rfl rfl)
theorem dX1_addInRange_88 : decode cX1_addInRange 88 = .ok (.iload_n 2, 1) := dk_28 (dk_at dksX1_addInRange_3 20 rfl rfl)
theorem dX1_addInRange_89 : decode cX1_addInRange 89 = .ok (.iload_n 3, 1) := dk_29 (dk_at dksX1_addInRange_3 21 rfl rfl)
theorem dX1_addInRange_90 : decode cX1_addInRange 90 = .ok (.iload 4, 2) := dk_21 4 (dk_at dksX1_addInRange_3 22 rfl rfl)
theorem dX1_addInRange_92 : decode cX1_addInRange 92 = .ok (.invokevirtual 166, 3) := dk_182 0 166 (dk_at dksX1_addInRange_4 0 rfl rfl)
theorem dX1_addInRange_95 : decode cX1_addInRange 95 = .ok (.aload_n 1, 1) := dk_43 (dk_at dksX1_addInRange_4 3 rfl rfl)
theorem dX1_addInRange_96 : decode cX1_addInRange 96 = .ok (.invokevirtual 151, 3) := dk_182 0 151 (dk_at dksX1_addInRange_4 4 rfl rfl)
theorem dX1_addInRange_99 : decode cX1_addInRange 99 = .ok (.return_, 1) := dk_177 (dk_at dksX1_addInRange_4 7 rfl rfl)
abbrev cX1_countBelow : ByteArray := prog_1_method_12_code
def yX1_countBelow : MethodName := ⟨RX1, "countBelow", "(J)I"⟩
def dkwX1_countBelow_3 : List UInt8 := [62, 25, 4, 180, 0, 170, 58, 4, 167, 255, 184, 29, 172]
abbrev dktX1_countBelow_3 : List UInt8 := dkwX1_countBelow_3 ++ []
def dkwX1_countBelow_2 : List UInt8 := [96, 62, 29, 25, 4, 180, 0, 163, 199, 0, 7, 3, 167, 0, 11, 25, 4, 180, 0, 163, 180, 0, 176, 96]
abbrev dktX1_countBelow_2 : List UInt8 := dkwX1_countBelow_2 ++ dktX1_countBelow_3
def dkwX1_countBelow_1 : List UInt8 := [25, 4, 180, 0, 163, 58, 4, 167, 255, 233, 29, 25, 4, 180, 0, 129, 153, 0, 7, 3, 167, 0, 4, 4]
abbrev dktX1_countBelow_1 : List UInt8 := dkwX1_countBelow_1 ++ dktX1_countBelow_2
def dkwX1_countBelow_0 : List UInt8 := [3, 62, 42, 180, 0, 173, 58, 4, 25, 4, 198, 0, 73, 25, 4, 180, 0, 107, 133, 31, 148, 155, 0, 13]
abbrev dktX1_countBelow_0 : List UInt8 := dkwX1_countBelow_0 ++ dktX1_countBelow_1
theorem dksX1_countBelow_0 : cX1_countBelow.data.toList.drop 0 = dktX1_countBelow_0 := by decide +kernel
theorem dksX1_countBelow_1 : cX1_countBelow.data.toList.drop 24 = dktX1_countBelow_1 := dk_seg dksX1_countBelow_0 24 rfl rfl
theorem dksX1_countBelow_2 : cX1_countBelow.data.toList.drop 48 = dktX1_countBelow_2 := dk_seg dksX1_countBelow_1 24 rfl rfl
theorem dksX1_countBelow_3 : cX1_countBelow.data.toList.drop 72 = dktX1_countBelow_3 := dk_seg dksX1_countBelow_2 24 rfl rfl
theorem dX1_countBelow_0 : decode cX1_countBelow 0 = .ok (.iconst 0, 1) := dk_3 (dk_at dksX1_countBelow_0 0 rfl rfl)
theorem dX1_countBelow_1 : decode cX1_countBelow 1 = .ok (.istore_n 3, 1) := dk_62 (dk_at dksX1_countBelow_0 1 rfl rfl)
theorem dX1_countBelow_2 : decode cX1_countBelow 2 = .ok (.aload_n 0, 1) := dk_42 (dk_at dksX1_countBelow_0 2 rfl rfl)
theorem dX1_countBelow_3 : decode cX1_countBelow 3 = .ok (.getfield 173, 3) := dk_180 0 173 (dk_at dksX1_countBelow_0 3 rfl rfl)
theorem dX1_countBelow_6 : decode cX1_countBelow 6 = .ok (.astore 4, 2) := dk_58 4 (dk_at dksX1_countBelow_0 6 rfl rfl)
theorem dX1_countBelow_8 : decode cX1_countBelow 8 = .ok (.aload 4, 2) := dk_25 4 (dk_at dksX1_countBelow_0 8 rfl rfl)
theorem dX1_countBelow_10 : decode cX1_countBelow 10 = .ok (.ifnull 73, 3) := dk_198 0 73 (dk_at dksX1_countBelow_0 10 rfl rfl)
theorem dX1_countBelow_13 : decode cX1_countBelow 13 = .ok (.aload 4, 2) := dk_25 4 (dk_at dksX1_countBelow_0 13 rfl rfl)
theorem dX1_countBelow_15 : decode cX1_countBelow 15 = .ok (.getfield 107, 3) := dk_180 0 107 (dk_at dksX1_countBelow_0 15 rfl rfl)
theorem dX1_countBelow_18 : decode cX1_countBelow 18 = .ok (.i2l, 1) := dk_133 (dk_at dksX1_countBelow_0 18 rfl rfl)
theorem dX1_countBelow_19 : decode cX1_countBelow 19 = .ok (.lload_n 1, 1) := dk_31 (dk_at dksX1_countBelow_0 19 rfl rfl)
theorem dX1_countBelow_20 : decode cX1_countBelow 20 = .ok (.lcmp, 1) := dk_148 (dk_at dksX1_countBelow_0 20 rfl rfl)
theorem dX1_countBelow_21 : decode cX1_countBelow 21 = .ok (.ifCond .lt 13, 3) := dk_155 0 13 (dk_at dksX1_countBelow_0 21 rfl rfl)
theorem dX1_countBelow_24 : decode cX1_countBelow 24 = .ok (.aload 4, 2) := dk_25 4 (dk_at dksX1_countBelow_1 0 rfl rfl)
theorem dX1_countBelow_26 : decode cX1_countBelow 26 = .ok (.getfield 163, 3) := dk_180 0 163 (dk_at dksX1_countBelow_1 2 rfl rfl)
theorem dX1_countBelow_29 : decode cX1_countBelow 29 = .ok (.astore 4, 2) := dk_58 4 (dk_at dksX1_countBelow_1 5 rfl rfl)
theorem dX1_countBelow_31 : decode cX1_countBelow 31 = .ok (.goto (-23), 3) := dk_167 255 233 (dk_at dksX1_countBelow_1 7 rfl rfl)
theorem dX1_countBelow_34 : decode cX1_countBelow 34 = .ok (.iload_n 3, 1) := dk_29 (dk_at dksX1_countBelow_1 10 rfl rfl)
theorem dX1_countBelow_35 : decode cX1_countBelow 35 = .ok (.aload 4, 2) := dk_25 4 (dk_at dksX1_countBelow_1 11 rfl rfl)
theorem dX1_countBelow_37 : decode cX1_countBelow 37 = .ok (.getfield 129, 3) := dk_180 0 129 (dk_at dksX1_countBelow_1 13 rfl rfl)
theorem dX1_countBelow_40 : decode cX1_countBelow 40 = .ok (.ifCond .eq 7, 3) := dk_153 0 7 (dk_at dksX1_countBelow_1 16 rfl rfl)
theorem dX1_countBelow_43 : decode cX1_countBelow 43 = .ok (.iconst 0, 1) := dk_3 (dk_at dksX1_countBelow_1 19 rfl rfl)
theorem dX1_countBelow_44 : decode cX1_countBelow 44 = .ok (.goto 4, 3) := dk_167 0 4 (dk_at dksX1_countBelow_1 20 rfl rfl)
theorem dX1_countBelow_47 : decode cX1_countBelow 47 = .ok (.iconst 1, 1) := dk_4 (dk_at dksX1_countBelow_1 23 rfl rfl)
theorem dX1_countBelow_48 : decode cX1_countBelow 48 = .ok (.iadd, 1) := dk_96 (dk_at dksX1_countBelow_2 0 rfl rfl)
theorem dX1_countBelow_49 : decode cX1_countBelow 49 = .ok (.istore_n 3, 1) := dk_62 (dk_at dksX1_countBelow_2 1 rfl rfl)
theorem dX1_countBelow_50 : decode cX1_countBelow 50 = .ok (.iload_n 3, 1) := dk_29 (dk_at dksX1_countBelow_2 2 rfl rfl)
theorem dX1_countBelow_51 : decode cX1_countBelow 51 = .ok (.aload 4, 2) := dk_25 4 (dk_at dksX1_countBelow_2 3 rfl rfl)
theorem dX1_countBelow_53 : decode cX1_countBelow 53 = .ok (.getfield 163, 3) := dk_180 0 163 (dk_at dksX1_countBelow_2 5 rfl rfl)
theorem dX1_countBelow_56 : decode cX1_countBelow 56 = .ok (.ifnonnull 7, 3) := dk_199 0 7 (dk_at dksX1_countBelow_2 8 rfl rfl)
theorem dX1_countBelow_59 : decode cX1_countBelow 59 = .ok (.iconst 0, 1) := dk_3 (dk_at dksX1_countBelow_2 11 rfl rfl)
theorem dX1_countBelow_60 : decode cX1_countBelow 60 = .ok (.goto 11, 3) := dk_167 0 11 (dk_at dksX1_countBelow_2 12 rfl rfl)
theorem dX1_countBelow_63 : decode cX1_countBelow 63 = .ok (.aload 4, 2) := dk_25 4 (dk_at dksX1_countBelow_2 15 rfl rfl)
theorem dX1_countBelow_65 : decode cX1_countBelow 65 = .ok (.getfield 163, 3) := dk_180 0 163 (dk_at dksX1_countBelow_2 17 rfl rfl)
theorem dX1_countBelow_68 : decode cX1_countBelow 68 = .ok (.getfield 176, 3) := dk_180 0 176 (dk_at dksX1_countBelow_2 20 rfl rfl)
theorem dX1_countBelow_71 : decode cX1_countBelow 71 = .ok (.iadd, 1) := dk_96 (dk_at dksX1_countBelow_2 23 rfl rfl)
theorem dX1_countBelow_72 : decode cX1_countBelow 72 = .ok (.istore_n 3, 1) := dk_62 (dk_at dksX1_countBelow_3 0 rfl rfl)
theorem dX1_countBelow_73 : decode cX1_countBelow 73 = .ok (.aload 4, 2) := dk_25 4 (dk_at dksX1_countBelow_3 1 rfl rfl)
theorem dX1_countBelow_75 : decode cX1_countBelow 75 = .ok (.getfield 170, 3) := dk_180 0 170 (dk_at dksX1_countBelow_3 3 rfl rfl)
theorem dX1_countBelow_78 : decode cX1_countBelow 78 = .ok (.astore 4, 2) := dk_58 4 (dk_at dksX1_countBelow_3 6 rfl rfl)
theorem dX1_countBelow_80 : decode cX1_countBelow 80 = .ok (.goto (-72), 3) := dk_167 255 184 (dk_at dksX1_countBelow_3 8 rfl rfl)
theorem dX1_countBelow_83 : decode cX1_countBelow 83 = .ok (.iload_n 3, 1) := dk_29 (dk_at dksX1_countBelow_3 11 rfl rfl)
theorem dX1_countBelow_84 : decode cX1_countBelow 84 = .ok (.ireturn, 1) := dk_172 (dk_at dksX1_countBelow_3 12 rfl rfl)
abbrev cX1_state : ByteArray := prog_1_method_37_code
def yX1_state : MethodName := ⟨RX1, "state", "(I)I"⟩
def dkwX1_state_2 : List UInt8 := [167, 0, 4, 3, 172]
abbrev dktX1_state_2 : List UInt8 := dkwX1_state_2 ++ []
def dkwX1_state_1 : List UInt8 := [42, 180, 0, 14, 27, 50, 77, 44, 199, 0, 7, 5, 167, 0, 15, 44, 180, 0, 129, 153, 0, 7, 4]
abbrev dktX1_state_1 : List UInt8 := dkwX1_state_1 ++ dktX1_state_2
def dkwX1_state_0 : List UInt8 := [27, 3, 42, 180, 0, 113, 4, 100, 184, 0, 116, 154, 0, 13, 187, 0, 120, 89, 18, 245, 183, 0, 124, 191]
abbrev dktX1_state_0 : List UInt8 := dkwX1_state_0 ++ dktX1_state_1
theorem dksX1_state_0 : cX1_state.data.toList.drop 0 = dktX1_state_0 := by decide +kernel
theorem dksX1_state_1 : cX1_state.data.toList.drop 24 = dktX1_state_1 := dk_seg dksX1_state_0 24 rfl rfl
theorem dksX1_state_2 : cX1_state.data.toList.drop 47 = dktX1_state_2 := dk_seg dksX1_state_1 23 rfl rfl
theorem dX1_state_0 : decode cX1_state 0 = .ok (.iload_n 1, 1) := dk_27 (dk_at dksX1_state_0 0 rfl rfl)
theorem dX1_state_1 : decode cX1_state 1 = .ok (.iconst 0, 1) := dk_3 (dk_at dksX1_state_0 1 rfl rfl)
theorem dX1_state_2 : decode cX1_state 2 = .ok (.aload_n 0, 1) := dk_42 (dk_at dksX1_state_0 2 rfl rfl)
theorem dX1_state_3 : decode cX1_state 3 = .ok (.getfield 113, 3) := dk_180 0 113 (dk_at dksX1_state_0 3 rfl rfl)
theorem dX1_state_6 : decode cX1_state 6 = .ok (.iconst 1, 1) := dk_4 (dk_at dksX1_state_0 6 rfl rfl)
theorem dX1_state_7 : decode cX1_state 7 = .ok (.isub, 1) := dk_100 (dk_at dksX1_state_0 7 rfl rfl)
theorem dX1_state_8 : decode cX1_state 8 = .ok (.invokestatic 116, 3) := dk_184 0 116 (dk_at dksX1_state_0 8 rfl rfl)
theorem dX1_state_11 : decode cX1_state 11 = .ok (.ifCond .ne 13, 3) := dk_154 0 13 (dk_at dksX1_state_0 11 rfl rfl)
theorem dX1_state_14 : decode cX1_state 14 = .ok (.new 120, 3) := dk_187 0 120 (dk_at dksX1_state_0 14 rfl rfl)
theorem dX1_state_17 : decode cX1_state 17 = .ok (.dup, 1) := dk_89 (dk_at dksX1_state_0 17 rfl rfl)
theorem dX1_state_18 : decode cX1_state 18 = .ok (.ldc 245, 2) := dk_18 245 (dk_at dksX1_state_0 18 rfl rfl)
theorem dX1_state_20 : decode cX1_state 20 = .ok (.invokespecial 124, 3) := dk_183 0 124 (dk_at dksX1_state_0 20 rfl rfl)
theorem dX1_state_23 : decode cX1_state 23 = .ok (.athrow, 1) := dk_191 (dk_at dksX1_state_0 23 rfl rfl)
theorem dX1_state_24 : decode cX1_state 24 = .ok (.aload_n 0, 1) := dk_42 (dk_at dksX1_state_1 0 rfl rfl)
theorem dX1_state_25 : decode cX1_state 25 = .ok (.getfield 14, 3) := dk_180 0 14 (dk_at dksX1_state_1 1 rfl rfl)
theorem dX1_state_28 : decode cX1_state 28 = .ok (.iload_n 1, 1) := dk_27 (dk_at dksX1_state_1 4 rfl rfl)
theorem dX1_state_29 : decode cX1_state 29 = .ok (.aaload, 1) := dk_50 (dk_at dksX1_state_1 5 rfl rfl)
theorem dX1_state_30 : decode cX1_state 30 = .ok (.astore_n 2, 1) := dk_77 (dk_at dksX1_state_1 6 rfl rfl)
theorem dX1_state_31 : decode cX1_state 31 = .ok (.aload_n 2, 1) := dk_44 (dk_at dksX1_state_1 7 rfl rfl)
theorem dX1_state_32 : decode cX1_state 32 = .ok (.ifnonnull 7, 3) := dk_199 0 7 (dk_at dksX1_state_1 8 rfl rfl)
theorem dX1_state_35 : decode cX1_state 35 = .ok (.iconst 2, 1) := dk_5 (dk_at dksX1_state_1 11 rfl rfl)
theorem dX1_state_36 : decode cX1_state 36 = .ok (.goto 15, 3) := dk_167 0 15 (dk_at dksX1_state_1 12 rfl rfl)
theorem dX1_state_39 : decode cX1_state 39 = .ok (.aload_n 2, 1) := dk_44 (dk_at dksX1_state_1 15 rfl rfl)
theorem dX1_state_40 : decode cX1_state 40 = .ok (.getfield 129, 3) := dk_180 0 129 (dk_at dksX1_state_1 16 rfl rfl)
theorem dX1_state_43 : decode cX1_state 43 = .ok (.ifCond .eq 7, 3) := dk_153 0 7 (dk_at dksX1_state_1 19 rfl rfl)
theorem dX1_state_46 : decode cX1_state 46 = .ok (.iconst 1, 1) := dk_4 (dk_at dksX1_state_1 22 rfl rfl)
theorem dX1_state_47 : decode cX1_state 47 = .ok (.goto 4, 3) := dk_167 0 4 (dk_at dksX1_state_2 0 rfl rfl)
theorem dX1_state_50 : decode cX1_state 50 = .ok (.iconst 0, 1) := dk_3 (dk_at dksX1_state_2 3 rfl rfl)
theorem dX1_state_51 : decode cX1_state 51 = .ok (.ireturn, 1) := dk_172 (dk_at dksX1_state_2 4 rfl rfl)
abbrev cX1_low : ByteArray := prog_1_method_38_code
def yX1_low : MethodName := ⟨RX1, "low", "(I)I"⟩
def dkwX1_low_0 : List UInt8 := [42, 27, 182, 0, 125, 180, 0, 107, 172]
abbrev dktX1_low_0 : List UInt8 := dkwX1_low_0 ++ []
theorem dksX1_low_0 : cX1_low.data.toList.drop 0 = dktX1_low_0 := by decide +kernel
theorem dX1_low_0 : decode cX1_low 0 = .ok (.aload_n 0, 1) := dk_42 (dk_at dksX1_low_0 0 rfl rfl)
theorem dX1_low_1 : decode cX1_low 1 = .ok (.iload_n 1, 1) := dk_27 (dk_at dksX1_low_0 1 rfl rfl)
theorem dX1_low_2 : decode cX1_low 2 = .ok (.invokevirtual 125, 3) := dk_182 0 125 (dk_at dksX1_low_0 2 rfl rfl)
theorem dX1_low_5 : decode cX1_low 5 = .ok (.getfield 107, 3) := dk_180 0 107 (dk_at dksX1_low_0 5 rfl rfl)
theorem dX1_low_8 : decode cX1_low 8 = .ok (.ireturn, 1) := dk_172 (dk_at dksX1_low_0 8 rfl rfl)
abbrev cX1_high : ByteArray := prog_1_method_39_code
def yX1_high : MethodName := ⟨RX1, "high", "(I)I"⟩
def dkwX1_high_0 : List UInt8 := [42, 27, 182, 0, 125, 180, 0, 110, 172]
abbrev dktX1_high_0 : List UInt8 := dkwX1_high_0 ++ []
theorem dksX1_high_0 : cX1_high.data.toList.drop 0 = dktX1_high_0 := by decide +kernel
theorem dX1_high_0 : decode cX1_high 0 = .ok (.aload_n 0, 1) := dk_42 (dk_at dksX1_high_0 0 rfl rfl)
theorem dX1_high_1 : decode cX1_high 1 = .ok (.iload_n 1, 1) := dk_27 (dk_at dksX1_high_0 1 rfl rfl)
theorem dX1_high_2 : decode cX1_high 2 = .ok (.invokevirtual 125, 3) := dk_182 0 125 (dk_at dksX1_high_0 2 rfl rfl)
theorem dX1_high_5 : decode cX1_high 5 = .ok (.getfield 110, 3) := dk_180 0 110 (dk_at dksX1_high_0 5 rfl rfl)
theorem dX1_high_8 : decode cX1_high 8 = .ok (.ireturn, 1) := dk_172 (dk_at dksX1_high_0 8 rfl rfl)
abbrev cX1_weight : ByteArray := prog_1_method_40_code
def yX1_weight : MethodName := ⟨RX1, "weight", "(I)I"⟩
def dkwX1_weight_0 : List UInt8 := [42, 42, 27, 182, 0, 125, 182, 1, 31, 172]
abbrev dktX1_weight_0 : List UInt8 := dkwX1_weight_0 ++ []
theorem dksX1_weight_0 : cX1_weight.data.toList.drop 0 = dktX1_weight_0 := by decide +kernel
theorem dX1_weight_0 : decode cX1_weight 0 = .ok (.aload_n 0, 1) := dk_42 (dk_at dksX1_weight_0 0 rfl rfl)
theorem dX1_weight_1 : decode cX1_weight 1 = .ok (.aload_n 0, 1) := dk_42 (dk_at dksX1_weight_0 1 rfl rfl)
theorem dX1_weight_2 : decode cX1_weight 2 = .ok (.iload_n 1, 1) := dk_27 (dk_at dksX1_weight_0 2 rfl rfl)
theorem dX1_weight_3 : decode cX1_weight 3 = .ok (.invokevirtual 125, 3) := dk_182 0 125 (dk_at dksX1_weight_0 3 rfl rfl)
theorem dX1_weight_6 : decode cX1_weight 6 = .ok (.invokevirtual 287, 3) := dk_182 1 31 (dk_at dksX1_weight_0 6 rfl rfl)
theorem dX1_weight_9 : decode cX1_weight 9 = .ok (.ireturn, 1) := dk_172 (dk_at dksX1_weight_0 9 rfl rfl)
abbrev cX1_parent : ByteArray := prog_1_method_42_code
def yX1_parent : MethodName := ⟨RX1, "parent", "(I)I"⟩
def dkwX1_parent_0 : List UInt8 := [42, 27, 182, 0, 125, 180, 0, 137, 184, 1, 34, 172]
abbrev dktX1_parent_0 : List UInt8 := dkwX1_parent_0 ++ []
theorem dksX1_parent_0 : cX1_parent.data.toList.drop 0 = dktX1_parent_0 := by decide +kernel
theorem dX1_parent_0 : decode cX1_parent 0 = .ok (.aload_n 0, 1) := dk_42 (dk_at dksX1_parent_0 0 rfl rfl)
theorem dX1_parent_1 : decode cX1_parent 1 = .ok (.iload_n 1, 1) := dk_27 (dk_at dksX1_parent_0 1 rfl rfl)
theorem dX1_parent_2 : decode cX1_parent 2 = .ok (.invokevirtual 125, 3) := dk_182 0 125 (dk_at dksX1_parent_0 2 rfl rfl)
theorem dX1_parent_5 : decode cX1_parent 5 = .ok (.getfield 137, 3) := dk_180 0 137 (dk_at dksX1_parent_0 5 rfl rfl)
theorem dX1_parent_8 : decode cX1_parent 8 = .ok (.invokestatic 290, 3) := dk_184 1 34 (dk_at dksX1_parent_0 8 rfl rfl)
theorem dX1_parent_11 : decode cX1_parent 11 = .ok (.ireturn, 1) := dk_172 (dk_at dksX1_parent_0 11 rfl rfl)
abbrev cX1_child : ByteArray := prog_1_method_43_code
def yX1_child : MethodName := ⟨RX1, "child", "(IZ)I"⟩
def dkwX1_child_1 : List UInt8 := [172]
abbrev dktX1_child_1 : List UInt8 := dkwX1_child_1 ++ []
def dkwX1_child_0 : List UInt8 := [42, 27, 182, 0, 125, 78, 28, 153, 0, 10, 45, 180, 0, 170, 167, 0, 7, 45, 180, 0, 163, 184, 1, 34]
abbrev dktX1_child_0 : List UInt8 := dkwX1_child_0 ++ dktX1_child_1
theorem dksX1_child_0 : cX1_child.data.toList.drop 0 = dktX1_child_0 := by decide +kernel
theorem dksX1_child_1 : cX1_child.data.toList.drop 24 = dktX1_child_1 := dk_seg dksX1_child_0 24 rfl rfl
theorem dX1_child_0 : decode cX1_child 0 = .ok (.aload_n 0, 1) := dk_42 (dk_at dksX1_child_0 0 rfl rfl)
theorem dX1_child_1 : decode cX1_child 1 = .ok (.iload_n 1, 1) := dk_27 (dk_at dksX1_child_0 1 rfl rfl)
theorem dX1_child_2 : decode cX1_child 2 = .ok (.invokevirtual 125, 3) := dk_182 0 125 (dk_at dksX1_child_0 2 rfl rfl)
theorem dX1_child_5 : decode cX1_child 5 = .ok (.astore_n 3, 1) := dk_78 (dk_at dksX1_child_0 5 rfl rfl)
theorem dX1_child_6 : decode cX1_child 6 = .ok (.iload_n 2, 1) := dk_28 (dk_at dksX1_child_0 6 rfl rfl)
theorem dX1_child_7 : decode cX1_child 7 = .ok (.ifCond .eq 10, 3) := dk_153 0 10 (dk_at dksX1_child_0 7 rfl rfl)
theorem dX1_child_10 : decode cX1_child 10 = .ok (.aload_n 3, 1) := dk_45 (dk_at dksX1_child_0 10 rfl rfl)
theorem dX1_child_11 : decode cX1_child 11 = .ok (.getfield 170, 3) := dk_180 0 170 (dk_at dksX1_child_0 11 rfl rfl)
theorem dX1_child_14 : decode cX1_child 14 = .ok (.goto 7, 3) := dk_167 0 7 (dk_at dksX1_child_0 14 rfl rfl)
theorem dX1_child_17 : decode cX1_child 17 = .ok (.aload_n 3, 1) := dk_45 (dk_at dksX1_child_0 17 rfl rfl)
theorem dX1_child_18 : decode cX1_child 18 = .ok (.getfield 163, 3) := dk_180 0 163 (dk_at dksX1_child_0 18 rfl rfl)
theorem dX1_child_21 : decode cX1_child 21 = .ok (.invokestatic 290, 3) := dk_184 1 34 (dk_at dksX1_child_0 21 rfl rfl)
theorem dX1_child_24 : decode cX1_child 24 = .ok (.ireturn, 1) := dk_172 (dk_at dksX1_child_1 0 rfl rfl)
abbrev cX1_isRed : ByteArray := prog_1_method_44_code
def yX1_isRed : MethodName := ⟨RX1, "isRed", "(I)Z"⟩
def dkwX1_isRed_0 : List UInt8 := [42, 27, 182, 0, 125, 180, 0, 191, 172]
abbrev dktX1_isRed_0 : List UInt8 := dkwX1_isRed_0 ++ []
theorem dksX1_isRed_0 : cX1_isRed.data.toList.drop 0 = dktX1_isRed_0 := by decide +kernel
theorem dX1_isRed_0 : decode cX1_isRed 0 = .ok (.aload_n 0, 1) := dk_42 (dk_at dksX1_isRed_0 0 rfl rfl)
theorem dX1_isRed_1 : decode cX1_isRed 1 = .ok (.iload_n 1, 1) := dk_27 (dk_at dksX1_isRed_0 1 rfl rfl)
theorem dX1_isRed_2 : decode cX1_isRed 2 = .ok (.invokevirtual 125, 3) := dk_182 0 125 (dk_at dksX1_isRed_0 2 rfl rfl)
theorem dX1_isRed_5 : decode cX1_isRed 5 = .ok (.getfield 191, 3) := dk_180 0 191 (dk_at dksX1_isRed_0 5 rfl rfl)
theorem dX1_isRed_8 : decode cX1_isRed 8 = .ok (.ireturn, 1) := dk_172 (dk_at dksX1_isRed_0 8 rfl rfl)
abbrev cX1_subtreeSize : ByteArray := prog_1_method_45_code
def yX1_subtreeSize : MethodName := ⟨RX1, "subtreeSize", "(I)I"⟩
def dkwX1_subtreeSize_0 : List UInt8 := [42, 27, 182, 0, 125, 180, 0, 176, 172]
abbrev dktX1_subtreeSize_0 : List UInt8 := dkwX1_subtreeSize_0 ++ []
theorem dksX1_subtreeSize_0 : cX1_subtreeSize.data.toList.drop 0 = dktX1_subtreeSize_0 := by decide +kernel
theorem dX1_subtreeSize_0 : decode cX1_subtreeSize 0 = .ok (.aload_n 0, 1) := dk_42 (dk_at dksX1_subtreeSize_0 0 rfl rfl)
theorem dX1_subtreeSize_1 : decode cX1_subtreeSize 1 = .ok (.iload_n 1, 1) := dk_27 (dk_at dksX1_subtreeSize_0 1 rfl rfl)
theorem dX1_subtreeSize_2 : decode cX1_subtreeSize 2 = .ok (.invokevirtual 125, 3) := dk_182 0 125 (dk_at dksX1_subtreeSize_0 2 rfl rfl)
theorem dX1_subtreeSize_5 : decode cX1_subtreeSize 5 = .ok (.getfield 176, 3) := dk_180 0 176 (dk_at dksX1_subtreeSize_0 5 rfl rfl)
theorem dX1_subtreeSize_8 : decode cX1_subtreeSize 8 = .ok (.ireturn, 1) := dk_172 (dk_at dksX1_subtreeSize_0 8 rfl rfl)
abbrev cX1_subtreeHigh : ByteArray := prog_1_method_47_code
def yX1_subtreeHigh : MethodName := ⟨RX1, "subtreeHigh", "(I)I"⟩
def dkwX1_subtreeHigh_0 : List UInt8 := [42, 27, 182, 1, 39, 180, 1, 42, 172]
abbrev dktX1_subtreeHigh_0 : List UInt8 := dkwX1_subtreeHigh_0 ++ []
theorem dksX1_subtreeHigh_0 : cX1_subtreeHigh.data.toList.drop 0 = dktX1_subtreeHigh_0 := by decide +kernel
theorem dX1_subtreeHigh_0 : decode cX1_subtreeHigh 0 = .ok (.aload_n 0, 1) := dk_42 (dk_at dksX1_subtreeHigh_0 0 rfl rfl)
theorem dX1_subtreeHigh_1 : decode cX1_subtreeHigh 1 = .ok (.iload_n 1, 1) := dk_27 (dk_at dksX1_subtreeHigh_0 1 rfl rfl)
theorem dX1_subtreeHigh_2 : decode cX1_subtreeHigh 2 = .ok (.invokevirtual 295, 3) := dk_182 1 39 (dk_at dksX1_subtreeHigh_0 2 rfl rfl)
theorem dX1_subtreeHigh_5 : decode cX1_subtreeHigh 5 = .ok (.getfield 298, 3) := dk_180 1 42 (dk_at dksX1_subtreeHigh_0 5 rfl rfl)
theorem dX1_subtreeHigh_8 : decode cX1_subtreeHigh 8 = .ok (.ireturn, 1) := dk_172 (dk_at dksX1_subtreeHigh_0 8 rfl rfl)
abbrev cX1_withLive : ByteArray := prog_1_method_46_code
def yX1_withLive : MethodName := ⟨RX1, "withLive", "(I)LIntervalTree$Node;"⟩
def dkwX1_withLive_1 : List UInt8 := [44, 176]
abbrev dktX1_withLive_1 : List UInt8 := dkwX1_withLive_1 ++ []
def dkwX1_withLive_0 : List UInt8 := [42, 27, 182, 0, 125, 77, 44, 180, 0, 176, 154, 0, 14, 187, 0, 216, 89, 19, 1, 37, 183, 0, 220, 191]
abbrev dktX1_withLive_0 : List UInt8 := dkwX1_withLive_0 ++ dktX1_withLive_1
theorem dksX1_withLive_0 : cX1_withLive.data.toList.drop 0 = dktX1_withLive_0 := by decide +kernel
theorem dksX1_withLive_1 : cX1_withLive.data.toList.drop 24 = dktX1_withLive_1 := dk_seg dksX1_withLive_0 24 rfl rfl
theorem dX1_withLive_0 : decode cX1_withLive 0 = .ok (.aload_n 0, 1) := dk_42 (dk_at dksX1_withLive_0 0 rfl rfl)
theorem dX1_withLive_1 : decode cX1_withLive 1 = .ok (.iload_n 1, 1) := dk_27 (dk_at dksX1_withLive_0 1 rfl rfl)
theorem dX1_withLive_2 : decode cX1_withLive 2 = .ok (.invokevirtual 125, 3) := dk_182 0 125 (dk_at dksX1_withLive_0 2 rfl rfl)
theorem dX1_withLive_5 : decode cX1_withLive 5 = .ok (.astore_n 2, 1) := dk_77 (dk_at dksX1_withLive_0 5 rfl rfl)
theorem dX1_withLive_6 : decode cX1_withLive 6 = .ok (.aload_n 2, 1) := dk_44 (dk_at dksX1_withLive_0 6 rfl rfl)
theorem dX1_withLive_7 : decode cX1_withLive 7 = .ok (.getfield 176, 3) := dk_180 0 176 (dk_at dksX1_withLive_0 7 rfl rfl)
theorem dX1_withLive_10 : decode cX1_withLive 10 = .ok (.ifCond .ne 14, 3) := dk_154 0 14 (dk_at dksX1_withLive_0 10 rfl rfl)
theorem dX1_withLive_13 : decode cX1_withLive 13 = .ok (.new 216, 3) := dk_187 0 216 (dk_at dksX1_withLive_0 13 rfl rfl)
theorem dX1_withLive_16 : decode cX1_withLive 16 = .ok (.dup, 1) := dk_89 (dk_at dksX1_withLive_0 16 rfl rfl)
theorem dX1_withLive_17 : decode cX1_withLive 17 = .ok (.ldc_w 293, 3) := dk_19 1 37 (dk_at dksX1_withLive_0 17 rfl rfl)
theorem dX1_withLive_20 : decode cX1_withLive 20 = .ok (.invokespecial 220, 3) := dk_183 0 220 (dk_at dksX1_withLive_0 20 rfl rfl)
theorem dX1_withLive_23 : decode cX1_withLive 23 = .ok (.athrow, 1) := dk_191 (dk_at dksX1_withLive_0 23 rfl rfl)
theorem dX1_withLive_24 : decode cX1_withLive 24 = .ok (.aload_n 2, 1) := dk_44 (dk_at dksX1_withLive_1 0 rfl rfl)
theorem dX1_withLive_25 : decode cX1_withLive 25 = .ok (.areturn, 1) := dk_176 (dk_at dksX1_withLive_1 1 rfl rfl)
abbrev cX1_subtreeWeight : ByteArray := prog_1_method_48_code
def yX1_subtreeWeight : MethodName := ⟨RX1, "subtreeWeight", "(I)I"⟩
def dkwX1_subtreeWeight_0 : List UInt8 := [42, 27, 182, 1, 39, 77, 44, 180, 1, 45, 42, 44, 182, 1, 31, 96, 44, 180, 0, 134, 100, 172]
abbrev dktX1_subtreeWeight_0 : List UInt8 := dkwX1_subtreeWeight_0 ++ []
theorem dksX1_subtreeWeight_0 : cX1_subtreeWeight.data.toList.drop 0 = dktX1_subtreeWeight_0 := by decide +kernel
theorem dX1_subtreeWeight_0 : decode cX1_subtreeWeight 0 = .ok (.aload_n 0, 1) := dk_42 (dk_at dksX1_subtreeWeight_0 0 rfl rfl)
theorem dX1_subtreeWeight_1 : decode cX1_subtreeWeight 1 = .ok (.iload_n 1, 1) := dk_27 (dk_at dksX1_subtreeWeight_0 1 rfl rfl)
theorem dX1_subtreeWeight_2 : decode cX1_subtreeWeight 2 = .ok (.invokevirtual 295, 3) := dk_182 1 39 (dk_at dksX1_subtreeWeight_0 2 rfl rfl)
theorem dX1_subtreeWeight_5 : decode cX1_subtreeWeight 5 = .ok (.astore_n 2, 1) := dk_77 (dk_at dksX1_subtreeWeight_0 5 rfl rfl)
theorem dX1_subtreeWeight_6 : decode cX1_subtreeWeight 6 = .ok (.aload_n 2, 1) := dk_44 (dk_at dksX1_subtreeWeight_0 6 rfl rfl)
theorem dX1_subtreeWeight_7 : decode cX1_subtreeWeight 7 = .ok (.getfield 301, 3) := dk_180 1 45 (dk_at dksX1_subtreeWeight_0 7 rfl rfl)
theorem dX1_subtreeWeight_10 : decode cX1_subtreeWeight 10 = .ok (.aload_n 0, 1) := dk_42 (dk_at dksX1_subtreeWeight_0 10 rfl rfl)
theorem dX1_subtreeWeight_11 : decode cX1_subtreeWeight 11 = .ok (.aload_n 2, 1) := dk_44 (dk_at dksX1_subtreeWeight_0 11 rfl rfl)
theorem dX1_subtreeWeight_12 : decode cX1_subtreeWeight 12 = .ok (.invokevirtual 287, 3) := dk_182 1 31 (dk_at dksX1_subtreeWeight_0 12 rfl rfl)
theorem dX1_subtreeWeight_15 : decode cX1_subtreeWeight 15 = .ok (.iadd, 1) := dk_96 (dk_at dksX1_subtreeWeight_0 15 rfl rfl)
theorem dX1_subtreeWeight_16 : decode cX1_subtreeWeight 16 = .ok (.aload_n 2, 1) := dk_44 (dk_at dksX1_subtreeWeight_0 16 rfl rfl)
theorem dX1_subtreeWeight_17 : decode cX1_subtreeWeight 17 = .ok (.getfield 134, 3) := dk_180 0 134 (dk_at dksX1_subtreeWeight_0 17 rfl rfl)
theorem dX1_subtreeWeight_20 : decode cX1_subtreeWeight 20 = .ok (.isub, 1) := dk_100 (dk_at dksX1_subtreeWeight_0 20 rfl rfl)
theorem dX1_subtreeWeight_21 : decode cX1_subtreeWeight 21 = .ok (.ireturn, 1) := dk_172 (dk_at dksX1_subtreeWeight_0 21 rfl rfl)
abbrev cX1_heaviest : ByteArray := prog_1_method_58_code
def yX1_heaviest : MethodName := ⟨RX1, "heaviest", "(II)I"⟩
def dkwX1_heaviest_0 : List UInt8 := [28, 155, 0, 7, 4, 167, 0, 4, 3, 184, 0, 179, 42, 27, 27, 28, 182, 1, 81, 172]
abbrev dktX1_heaviest_0 : List UInt8 := dkwX1_heaviest_0 ++ []
theorem dksX1_heaviest_0 : cX1_heaviest.data.toList.drop 0 = dktX1_heaviest_0 := by decide +kernel
theorem dX1_heaviest_0 : decode cX1_heaviest 0 = .ok (.iload_n 2, 1) := dk_28 (dk_at dksX1_heaviest_0 0 rfl rfl)
theorem dX1_heaviest_1 : decode cX1_heaviest 1 = .ok (.ifCond .lt 7, 3) := dk_155 0 7 (dk_at dksX1_heaviest_0 1 rfl rfl)
theorem dX1_heaviest_4 : decode cX1_heaviest 4 = .ok (.iconst 1, 1) := dk_4 (dk_at dksX1_heaviest_0 4 rfl rfl)
theorem dX1_heaviest_5 : decode cX1_heaviest 5 = .ok (.goto 4, 3) := dk_167 0 4 (dk_at dksX1_heaviest_0 5 rfl rfl)
theorem dX1_heaviest_8 : decode cX1_heaviest 8 = .ok (.iconst 0, 1) := dk_3 (dk_at dksX1_heaviest_0 8 rfl rfl)
theorem dX1_heaviest_9 : decode cX1_heaviest 9 = .ok (.invokestatic 179, 3) := dk_184 0 179 (dk_at dksX1_heaviest_0 9 rfl rfl)
theorem dX1_heaviest_12 : decode cX1_heaviest 12 = .ok (.aload_n 0, 1) := dk_42 (dk_at dksX1_heaviest_0 12 rfl rfl)
theorem dX1_heaviest_13 : decode cX1_heaviest 13 = .ok (.iload_n 1, 1) := dk_27 (dk_at dksX1_heaviest_0 13 rfl rfl)
theorem dX1_heaviest_14 : decode cX1_heaviest 14 = .ok (.iload_n 1, 1) := dk_27 (dk_at dksX1_heaviest_0 14 rfl rfl)
theorem dX1_heaviest_15 : decode cX1_heaviest 15 = .ok (.iload_n 2, 1) := dk_28 (dk_at dksX1_heaviest_0 15 rfl rfl)
theorem dX1_heaviest_16 : decode cX1_heaviest 16 = .ok (.invokevirtual 337, 3) := dk_182 1 81 (dk_at dksX1_heaviest_0 16 rfl rfl)
theorem dX1_heaviest_19 : decode cX1_heaviest 19 = .ok (.ireturn, 1) := dk_172 (dk_at dksX1_heaviest_0 19 rfl rfl)
abbrev cX1_ranked : ByteArray := prog_1_method_57_code
def yX1_ranked : MethodName := ⟨RX1, "ranked", "(III)I"⟩
def dkwX1_ranked_2 : List UInt8 := [180, 0, 231, 172]
abbrev dktX1_ranked_2 : List UInt8 := dkwX1_ranked_2 ++ []
def dkwX1_ranked_1 : List UInt8 := [25, 4, 1, 182, 1, 77, 58, 4, 25, 4, 199, 0, 5, 2, 172, 132, 5, 1, 167, 255, 225, 25, 4]
abbrev dktX1_ranked_1 : List UInt8 := dkwX1_ranked_1 ++ dktX1_ranked_2
def dkwX1_ranked_0 : List UInt8 := [42, 182, 1, 12, 1, 58, 4, 3, 54, 5, 21, 5, 29, 163, 0, 31, 42, 42, 180, 0, 173, 27, 28]
abbrev dktX1_ranked_0 : List UInt8 := dkwX1_ranked_0 ++ dktX1_ranked_1
theorem dksX1_ranked_0 : cX1_ranked.data.toList.drop 0 = dktX1_ranked_0 := by decide +kernel
theorem dksX1_ranked_1 : cX1_ranked.data.toList.drop 23 = dktX1_ranked_1 := dk_seg dksX1_ranked_0 23 rfl rfl
theorem dksX1_ranked_2 : cX1_ranked.data.toList.drop 46 = dktX1_ranked_2 := dk_seg dksX1_ranked_1 23 rfl rfl
theorem dX1_ranked_0 : decode cX1_ranked 0 = .ok (.aload_n 0, 1) := dk_42 (dk_at dksX1_ranked_0 0 rfl rfl)
theorem dX1_ranked_1 : decode cX1_ranked 1 = .ok (.invokevirtual 268, 3) := dk_182 1 12 (dk_at dksX1_ranked_0 1 rfl rfl)
theorem dX1_ranked_4 : decode cX1_ranked 4 = .ok (.aconst_null, 1) := dk_1 (dk_at dksX1_ranked_0 4 rfl rfl)
theorem dX1_ranked_5 : decode cX1_ranked 5 = .ok (.astore 4, 2) := dk_58 4 (dk_at dksX1_ranked_0 5 rfl rfl)
theorem dX1_ranked_7 : decode cX1_ranked 7 = .ok (.iconst 0, 1) := dk_3 (dk_at dksX1_ranked_0 7 rfl rfl)
theorem dX1_ranked_8 : decode cX1_ranked 8 = .ok (.istore 5, 2) := dk_54 5 (dk_at dksX1_ranked_0 8 rfl rfl)
theorem dX1_ranked_10 : decode cX1_ranked 10 = .ok (.iload 5, 2) := dk_21 5 (dk_at dksX1_ranked_0 10 rfl rfl)
theorem dX1_ranked_12 : decode cX1_ranked 12 = .ok (.iload_n 3, 1) := dk_29 (dk_at dksX1_ranked_0 12 rfl rfl)
theorem dX1_ranked_13 : decode cX1_ranked 13 = .ok (.if_icmp .gt 31, 3) := dk_163 0 31 (dk_at dksX1_ranked_0 13 rfl rfl)
theorem dX1_ranked_16 : decode cX1_ranked 16 = .ok (.aload_n 0, 1) := dk_42 (dk_at dksX1_ranked_0 16 rfl rfl)
theorem dX1_ranked_17 : decode cX1_ranked 17 = .ok (.aload_n 0, 1) := dk_42 (dk_at dksX1_ranked_0 17 rfl rfl)
theorem dX1_ranked_18 : decode cX1_ranked 18 = .ok (.getfield 173, 3) := dk_180 0 173 (dk_at dksX1_ranked_0 18 rfl rfl)
theorem dX1_ranked_21 : decode cX1_ranked 21 = .ok (.iload_n 1, 1) := dk_27 (dk_at dksX1_ranked_0 21 rfl rfl)
theorem dX1_ranked_22 : decode cX1_ranked 22 = .ok (.iload_n 2, 1) := dk_28 (dk_at dksX1_ranked_0 22 rfl rfl)
theorem dX1_ranked_23 : decode cX1_ranked 23 = .ok (.aload 4, 2) := dk_25 4 (dk_at dksX1_ranked_1 0 rfl rfl)
theorem dX1_ranked_25 : decode cX1_ranked 25 = .ok (.aconst_null, 1) := dk_1 (dk_at dksX1_ranked_1 2 rfl rfl)
theorem dX1_ranked_26 : decode cX1_ranked 26 = .ok (.invokevirtual 333, 3) := dk_182 1 77 (dk_at dksX1_ranked_1 3 rfl rfl)
theorem dX1_ranked_29 : decode cX1_ranked 29 = .ok (.astore 4, 2) := dk_58 4 (dk_at dksX1_ranked_1 6 rfl rfl)
theorem dX1_ranked_31 : decode cX1_ranked 31 = .ok (.aload 4, 2) := dk_25 4 (dk_at dksX1_ranked_1 8 rfl rfl)
theorem dX1_ranked_33 : decode cX1_ranked 33 = .ok (.ifnonnull 5, 3) := dk_199 0 5 (dk_at dksX1_ranked_1 10 rfl rfl)
theorem dX1_ranked_36 : decode cX1_ranked 36 = .ok (.iconst (-1), 1) := dk_2 (dk_at dksX1_ranked_1 13 rfl rfl)
theorem dX1_ranked_37 : decode cX1_ranked 37 = .ok (.ireturn, 1) := dk_172 (dk_at dksX1_ranked_1 14 rfl rfl)
theorem dX1_ranked_38 : decode cX1_ranked 38 = .ok (.iinc 5 1, 3) := dk_132 5 1 (dk_at dksX1_ranked_1 15 rfl rfl)
theorem dX1_ranked_41 : decode cX1_ranked 41 = .ok (.goto (-31), 3) := dk_167 255 225 (dk_at dksX1_ranked_1 18 rfl rfl)
theorem dX1_ranked_44 : decode cX1_ranked 44 = .ok (.aload 4, 2) := dk_25 4 (dk_at dksX1_ranked_1 21 rfl rfl)
theorem dX1_ranked_46 : decode cX1_ranked 46 = .ok (.getfield 231, 3) := dk_180 0 231 (dk_at dksX1_ranked_2 0 rfl rfl)
theorem dX1_ranked_49 : decode cX1_ranked 49 = .ok (.ireturn, 1) := dk_172 (dk_at dksX1_ranked_2 3 rfl rfl)
abbrev cX1_heaviestIn : ByteArray := prog_1_method_56_code
def yX1_heaviestIn : MethodName := ⟨RX1, "heaviestIn", "(LIntervalTree$Node;IILIntervalTree$Node;LIntervalTree$Node;)LIntervalTree$Node;"⟩
def dkwX1_heaviestIn_6 : List UInt8 := [180, 0, 170, 28, 29, 25, 4, 25, 6, 182, 1, 77, 176]
abbrev dktX1_heaviestIn_6 : List UInt8 := dkwX1_heaviestIn_6 ++ []
def dkwX1_heaviestIn_5 : List UInt8 := [25, 6, 182, 1, 77, 58, 6, 43, 180, 0, 107, 29, 164, 0, 8, 25, 6, 167, 0, 17, 42, 43]
abbrev dktX1_heaviestIn_5 : List UInt8 := dkwX1_heaviestIn_5 ++ dktX1_heaviestIn_6
def dkwX1_heaviestIn_4 : List UInt8 := [198, 0, 12, 43, 25, 6, 184, 1, 69, 153, 0, 6, 43, 58, 6, 42, 43, 180, 0, 163, 28, 29, 25, 4]
abbrev dktX1_heaviestIn_4 : List UInt8 := dkwX1_heaviestIn_4 ++ dktX1_heaviestIn_5
def dkwX1_heaviestIn_3 : List UInt8 := [180, 0, 129, 154, 0, 34, 43, 28, 29, 182, 1, 73, 153, 0, 25, 21, 7, 153, 0, 20, 25, 6]
abbrev dktX1_heaviestIn_3 : List UInt8 := dkwX1_heaviestIn_3 ++ dktX1_heaviestIn_4
def dkwX1_heaviestIn_2 : List UInt8 := [25, 4, 198, 0, 12, 25, 4, 43, 184, 1, 69, 153, 0, 7, 4, 167, 0, 4, 3, 54, 7, 43]
abbrev dktX1_heaviestIn_2 : List UInt8 := dkwX1_heaviestIn_2 ++ dktX1_heaviestIn_3
def dkwX1_heaviestIn_1 : List UInt8 := [43, 180, 1, 45, 25, 5, 180, 0, 134, 162, 0, 6, 25, 5, 176, 43, 182, 0, 148, 25, 5, 58, 6]
abbrev dktX1_heaviestIn_1 : List UInt8 := dkwX1_heaviestIn_1 ++ dktX1_heaviestIn_2
def dkwX1_heaviestIn_0 : List UInt8 := [43, 198, 0, 35, 43, 180, 0, 176, 153, 0, 28, 43, 180, 1, 42, 28, 161, 0, 20, 25, 5, 198, 0, 18]
abbrev dktX1_heaviestIn_0 : List UInt8 := dkwX1_heaviestIn_0 ++ dktX1_heaviestIn_1
theorem dksX1_heaviestIn_0 : cX1_heaviestIn.data.toList.drop 0 = dktX1_heaviestIn_0 := by decide +kernel
theorem dksX1_heaviestIn_1 : cX1_heaviestIn.data.toList.drop 24 = dktX1_heaviestIn_1 := dk_seg dksX1_heaviestIn_0 24 rfl rfl
theorem dksX1_heaviestIn_2 : cX1_heaviestIn.data.toList.drop 47 = dktX1_heaviestIn_2 := dk_seg dksX1_heaviestIn_1 23 rfl rfl
theorem dksX1_heaviestIn_3 : cX1_heaviestIn.data.toList.drop 69 = dktX1_heaviestIn_3 := dk_seg dksX1_heaviestIn_2 22 rfl rfl
theorem dksX1_heaviestIn_4 : cX1_heaviestIn.data.toList.drop 91 = dktX1_heaviestIn_4 := dk_seg dksX1_heaviestIn_3 22 rfl rfl
theorem dksX1_heaviestIn_5 : cX1_heaviestIn.data.toList.drop 115 = dktX1_heaviestIn_5 := dk_seg dksX1_heaviestIn_4 24 rfl rfl
theorem dksX1_heaviestIn_6 : cX1_heaviestIn.data.toList.drop 137 = dktX1_heaviestIn_6 := dk_seg dksX1_heaviestIn_5 22 rfl rfl
theorem dX1_heaviestIn_0 : decode cX1_heaviestIn 0 = .ok (.aload_n 1, 1) := dk_43 (dk_at dksX1_heaviestIn_0 0 rfl rfl)
theorem dX1_heaviestIn_1 : decode cX1_heaviestIn 1 = .ok (.ifnull 35, 3) := dk_198 0 35 (dk_at dksX1_heaviestIn_0 1 rfl rfl)
theorem dX1_heaviestIn_4 : decode cX1_heaviestIn 4 = .ok (.aload_n 1, 1) := dk_43 (dk_at dksX1_heaviestIn_0 4 rfl rfl)
theorem dX1_heaviestIn_5 : decode cX1_heaviestIn 5 = .ok (.getfield 176, 3) := dk_180 0 176 (dk_at dksX1_heaviestIn_0 5 rfl rfl)
theorem dX1_heaviestIn_8 : decode cX1_heaviestIn 8 = .ok (.ifCond .eq 28, 3) := dk_153 0 28 (dk_at dksX1_heaviestIn_0 8 rfl rfl)
theorem dX1_heaviestIn_11 : decode cX1_heaviestIn 11 = .ok (.aload_n 1, 1) := dk_43 (dk_at dksX1_heaviestIn_0 11 rfl rfl)
theorem dX1_heaviestIn_12 : decode cX1_heaviestIn 12 = .ok (.getfield 298, 3) := dk_180 1 42 (dk_at dksX1_heaviestIn_0 12 rfl rfl)
theorem dX1_heaviestIn_15 : decode cX1_heaviestIn 15 = .ok (.iload_n 2, 1) := dk_28 (dk_at dksX1_heaviestIn_0 15 rfl rfl)
theorem dX1_heaviestIn_16 : decode cX1_heaviestIn 16 = .ok (.if_icmp .lt 20, 3) := dk_161 0 20 (dk_at dksX1_heaviestIn_0 16 rfl rfl)
theorem dX1_heaviestIn_19 : decode cX1_heaviestIn 19 = .ok (.aload 5, 2) := dk_25 5 (dk_at dksX1_heaviestIn_0 19 rfl rfl)
theorem dX1_heaviestIn_21 : decode cX1_heaviestIn 21 = .ok (.ifnull 18, 3) := dk_198 0 18 (dk_at dksX1_heaviestIn_0 21 rfl rfl)
theorem dX1_heaviestIn_24 : decode cX1_heaviestIn 24 = .ok (.aload_n 1, 1) := dk_43 (dk_at dksX1_heaviestIn_1 0 rfl rfl)
theorem dX1_heaviestIn_25 : decode cX1_heaviestIn 25 = .ok (.getfield 301, 3) := dk_180 1 45 (dk_at dksX1_heaviestIn_1 1 rfl rfl)
theorem dX1_heaviestIn_28 : decode cX1_heaviestIn 28 = .ok (.aload 5, 2) := dk_25 5 (dk_at dksX1_heaviestIn_1 4 rfl rfl)
theorem dX1_heaviestIn_30 : decode cX1_heaviestIn 30 = .ok (.getfield 134, 3) := dk_180 0 134 (dk_at dksX1_heaviestIn_1 6 rfl rfl)
theorem dX1_heaviestIn_33 : decode cX1_heaviestIn 33 = .ok (.if_icmp .ge 6, 3) := dk_162 0 6 (dk_at dksX1_heaviestIn_1 9 rfl rfl)
theorem dX1_heaviestIn_36 : decode cX1_heaviestIn 36 = .ok (.aload 5, 2) := dk_25 5 (dk_at dksX1_heaviestIn_1 12 rfl rfl)
theorem dX1_heaviestIn_38 : decode cX1_heaviestIn 38 = .ok (.areturn, 1) := dk_176 (dk_at dksX1_heaviestIn_1 14 rfl rfl)
theorem dX1_heaviestIn_39 : decode cX1_heaviestIn 39 = .ok (.aload_n 1, 1) := dk_43 (dk_at dksX1_heaviestIn_1 15 rfl rfl)
theorem dX1_heaviestIn_40 : decode cX1_heaviestIn 40 = .ok (.invokevirtual 148, 3) := dk_182 0 148 (dk_at dksX1_heaviestIn_1 16 rfl rfl)
theorem dX1_heaviestIn_43 : decode cX1_heaviestIn 43 = .ok (.aload 5, 2) := dk_25 5 (dk_at dksX1_heaviestIn_1 19 rfl rfl)
theorem dX1_heaviestIn_45 : decode cX1_heaviestIn 45 = .ok (.astore 6, 2) := dk_58 6 (dk_at dksX1_heaviestIn_1 21 rfl rfl)
theorem dX1_heaviestIn_47 : decode cX1_heaviestIn 47 = .ok (.aload 4, 2) := dk_25 4 (dk_at dksX1_heaviestIn_2 0 rfl rfl)
theorem dX1_heaviestIn_49 : decode cX1_heaviestIn 49 = .ok (.ifnull 12, 3) := dk_198 0 12 (dk_at dksX1_heaviestIn_2 2 rfl rfl)
theorem dX1_heaviestIn_52 : decode cX1_heaviestIn 52 = .ok (.aload 4, 2) := dk_25 4 (dk_at dksX1_heaviestIn_2 5 rfl rfl)
theorem dX1_heaviestIn_54 : decode cX1_heaviestIn 54 = .ok (.aload_n 1, 1) := dk_43 (dk_at dksX1_heaviestIn_2 7 rfl rfl)
theorem dX1_heaviestIn_55 : decode cX1_heaviestIn 55 = .ok (.invokestatic 325, 3) := dk_184 1 69 (dk_at dksX1_heaviestIn_2 8 rfl rfl)
theorem dX1_heaviestIn_58 : decode cX1_heaviestIn 58 = .ok (.ifCond .eq 7, 3) := dk_153 0 7 (dk_at dksX1_heaviestIn_2 11 rfl rfl)
theorem dX1_heaviestIn_61 : decode cX1_heaviestIn 61 = .ok (.iconst 1, 1) := dk_4 (dk_at dksX1_heaviestIn_2 14 rfl rfl)
theorem dX1_heaviestIn_62 : decode cX1_heaviestIn 62 = .ok (.goto 4, 3) := dk_167 0 4 (dk_at dksX1_heaviestIn_2 15 rfl rfl)
theorem dX1_heaviestIn_65 : decode cX1_heaviestIn 65 = .ok (.iconst 0, 1) := dk_3 (dk_at dksX1_heaviestIn_2 18 rfl rfl)
theorem dX1_heaviestIn_66 : decode cX1_heaviestIn 66 = .ok (.istore 7, 2) := dk_54 7 (dk_at dksX1_heaviestIn_2 19 rfl rfl)
theorem dX1_heaviestIn_68 : decode cX1_heaviestIn 68 = .ok (.aload_n 1, 1) := dk_43 (dk_at dksX1_heaviestIn_2 21 rfl rfl)
theorem dX1_heaviestIn_69 : decode cX1_heaviestIn 69 = .ok (.getfield 129, 3) := dk_180 0 129 (dk_at dksX1_heaviestIn_3 0 rfl rfl)
theorem dX1_heaviestIn_72 : decode cX1_heaviestIn 72 = .ok (.ifCond .ne 34, 3) := dk_154 0 34 (dk_at dksX1_heaviestIn_3 3 rfl rfl)
theorem dX1_heaviestIn_75 : decode cX1_heaviestIn 75 = .ok (.aload_n 1, 1) := dk_43 (dk_at dksX1_heaviestIn_3 6 rfl rfl)
theorem dX1_heaviestIn_76 : decode cX1_heaviestIn 76 = .ok (.iload_n 2, 1) := dk_28 (dk_at dksX1_heaviestIn_3 7 rfl rfl)
theorem dX1_heaviestIn_77 : decode cX1_heaviestIn 77 = .ok (.iload_n 3, 1) := dk_29 (dk_at dksX1_heaviestIn_3 8 rfl rfl)
theorem dX1_heaviestIn_78 : decode cX1_heaviestIn 78 = .ok (.invokevirtual 329, 3) := dk_182 1 73 (dk_at dksX1_heaviestIn_3 9 rfl rfl)
theorem dX1_heaviestIn_81 : decode cX1_heaviestIn 81 = .ok (.ifCond .eq 25, 3) := dk_153 0 25 (dk_at dksX1_heaviestIn_3 12 rfl rfl)
theorem dX1_heaviestIn_84 : decode cX1_heaviestIn 84 = .ok (.iload 7, 2) := dk_21 7 (dk_at dksX1_heaviestIn_3 15 rfl rfl)
theorem dX1_heaviestIn_86 : decode cX1_heaviestIn 86 = .ok (.ifCond .eq 20, 3) := dk_153 0 20 (dk_at dksX1_heaviestIn_3 17 rfl rfl)
theorem dX1_heaviestIn_89 : decode cX1_heaviestIn 89 = .ok (.aload 6, 2) := dk_25 6 (dk_at dksX1_heaviestIn_3 20 rfl rfl)
theorem dX1_heaviestIn_91 : decode cX1_heaviestIn 91 = .ok (.ifnull 12, 3) := dk_198 0 12 (dk_at dksX1_heaviestIn_4 0 rfl rfl)
theorem dX1_heaviestIn_94 : decode cX1_heaviestIn 94 = .ok (.aload_n 1, 1) := dk_43 (dk_at dksX1_heaviestIn_4 3 rfl rfl)
theorem dX1_heaviestIn_95 : decode cX1_heaviestIn 95 = .ok (.aload 6, 2) := dk_25 6 (dk_at dksX1_heaviestIn_4 4 rfl rfl)
theorem dX1_heaviestIn_97 : decode cX1_heaviestIn 97 = .ok (.invokestatic 325, 3) := dk_184 1 69 (dk_at dksX1_heaviestIn_4 6 rfl rfl)
theorem dX1_heaviestIn_100 : decode cX1_heaviestIn 100 = .ok (.ifCond .eq 6, 3) := dk_153 0 6 (dk_at dksX1_heaviestIn_4 9 rfl rfl)
theorem dX1_heaviestIn_103 : decode cX1_heaviestIn 103 = .ok (.aload_n 1, 1) := dk_43 (dk_at dksX1_heaviestIn_4 12 rfl rfl)
theorem dX1_heaviestIn_104 : decode cX1_heaviestIn 104 = .ok (.astore 6, 2) := dk_58 6 (dk_at dksX1_heaviestIn_4 13 rfl rfl)
theorem dX1_heaviestIn_106 : decode cX1_heaviestIn 106 = .ok (.aload_n 0, 1) := dk_42 (dk_at dksX1_heaviestIn_4 15 rfl rfl)
theorem dX1_heaviestIn_107 : decode cX1_heaviestIn 107 = .ok (.aload_n 1, 1) := dk_43 (dk_at dksX1_heaviestIn_4 16 rfl rfl)
theorem dX1_heaviestIn_108 : decode cX1_heaviestIn 108 = .ok (.getfield 163, 3) := dk_180 0 163 (dk_at dksX1_heaviestIn_4 17 rfl rfl)
theorem dX1_heaviestIn_111 : decode cX1_heaviestIn 111 = .ok (.iload_n 2, 1) := dk_28 (dk_at dksX1_heaviestIn_4 20 rfl rfl)
theorem dX1_heaviestIn_112 : decode cX1_heaviestIn 112 = .ok (.iload_n 3, 1) := dk_29 (dk_at dksX1_heaviestIn_4 21 rfl rfl)
theorem dX1_heaviestIn_113 : decode cX1_heaviestIn 113 = .ok (.aload 4, 2) := dk_25 4 (dk_at dksX1_heaviestIn_4 22 rfl rfl)
theorem dX1_heaviestIn_115 : decode cX1_heaviestIn 115 = .ok (.aload 6, 2) := dk_25 6 (dk_at dksX1_heaviestIn_5 0 rfl rfl)
theorem dX1_heaviestIn_117 : decode cX1_heaviestIn 117 = .ok (.invokevirtual 333, 3) := dk_182 1 77 (dk_at dksX1_heaviestIn_5 2 rfl rfl)
theorem dX1_heaviestIn_120 : decode cX1_heaviestIn 120 = .ok (.astore 6, 2) := dk_58 6 (dk_at dksX1_heaviestIn_5 5 rfl rfl)
theorem dX1_heaviestIn_122 : decode cX1_heaviestIn 122 = .ok (.aload_n 1, 1) := dk_43 (dk_at dksX1_heaviestIn_5 7 rfl rfl)
theorem dX1_heaviestIn_123 : decode cX1_heaviestIn 123 = .ok (.getfield 107, 3) := dk_180 0 107 (dk_at dksX1_heaviestIn_5 8 rfl rfl)
theorem dX1_heaviestIn_126 : decode cX1_heaviestIn 126 = .ok (.iload_n 3, 1) := dk_29 (dk_at dksX1_heaviestIn_5 11 rfl rfl)
theorem dX1_heaviestIn_127 : decode cX1_heaviestIn 127 = .ok (.if_icmp .le 8, 3) := dk_164 0 8 (dk_at dksX1_heaviestIn_5 12 rfl rfl)
theorem dX1_heaviestIn_130 : decode cX1_heaviestIn 130 = .ok (.aload 6, 2) := dk_25 6 (dk_at dksX1_heaviestIn_5 15 rfl rfl)
theorem dX1_heaviestIn_132 : decode cX1_heaviestIn 132 = .ok (.goto 17, 3) := dk_167 0 17 (dk_at dksX1_heaviestIn_5 17 rfl rfl)
theorem dX1_heaviestIn_135 : decode cX1_heaviestIn 135 = .ok (.aload_n 0, 1) := dk_42 (dk_at dksX1_heaviestIn_5 20 rfl rfl)
theorem dX1_heaviestIn_136 : decode cX1_heaviestIn 136 = .ok (.aload_n 1, 1) := dk_43 (dk_at dksX1_heaviestIn_5 21 rfl rfl)
theorem dX1_heaviestIn_137 : decode cX1_heaviestIn 137 = .ok (.getfield 170, 3) := dk_180 0 170 (dk_at dksX1_heaviestIn_6 0 rfl rfl)
theorem dX1_heaviestIn_140 : decode cX1_heaviestIn 140 = .ok (.iload_n 2, 1) := dk_28 (dk_at dksX1_heaviestIn_6 3 rfl rfl)
theorem dX1_heaviestIn_141 : decode cX1_heaviestIn 141 = .ok (.iload_n 3, 1) := dk_29 (dk_at dksX1_heaviestIn_6 4 rfl rfl)
theorem dX1_heaviestIn_142 : decode cX1_heaviestIn 142 = .ok (.aload 4, 2) := dk_25 4 (dk_at dksX1_heaviestIn_6 5 rfl rfl)
theorem dX1_heaviestIn_144 : decode cX1_heaviestIn 144 = .ok (.aload 6, 2) := dk_25 6 (dk_at dksX1_heaviestIn_6 7 rfl rfl)
theorem dX1_heaviestIn_146 : decode cX1_heaviestIn 146 = .ok (.invokevirtual 333, 3) := dk_182 1 77 (dk_at dksX1_heaviestIn_6 9 rfl rfl)
theorem dX1_heaviestIn_149 : decode cX1_heaviestIn 149 = .ok (.areturn, 1) := dk_176 (dk_at dksX1_heaviestIn_6 12 rfl rfl)
abbrev cX1_isHeavier : ByteArray := prog_1_method_55_code
def yX1_isHeavier : MethodName := ⟨RX1, "isHeavier", "(LIntervalTree$Node;LIntervalTree$Node;)Z"⟩
def dkwX1_isHeavier_1 : List UInt8 := [167, 0, 23, 3, 167, 0, 19, 42, 180, 0, 231, 43, 180, 0, 231, 162, 0, 7, 4, 167, 0, 4, 3, 172]
abbrev dktX1_isHeavier_1 : List UInt8 := dkwX1_isHeavier_1 ++ []
def dkwX1_isHeavier_0 : List UInt8 := [42, 180, 0, 134, 43, 180, 0, 134, 159, 0, 22, 42, 180, 0, 134, 43, 180, 0, 134, 164, 0, 7, 4]
abbrev dktX1_isHeavier_0 : List UInt8 := dkwX1_isHeavier_0 ++ dktX1_isHeavier_1
theorem dksX1_isHeavier_0 : cX1_isHeavier.data.toList.drop 0 = dktX1_isHeavier_0 := by decide +kernel
theorem dksX1_isHeavier_1 : cX1_isHeavier.data.toList.drop 23 = dktX1_isHeavier_1 := dk_seg dksX1_isHeavier_0 23 rfl rfl
theorem dX1_isHeavier_0 : decode cX1_isHeavier 0 = .ok (.aload_n 0, 1) := dk_42 (dk_at dksX1_isHeavier_0 0 rfl rfl)
theorem dX1_isHeavier_1 : decode cX1_isHeavier 1 = .ok (.getfield 134, 3) := dk_180 0 134 (dk_at dksX1_isHeavier_0 1 rfl rfl)
theorem dX1_isHeavier_4 : decode cX1_isHeavier 4 = .ok (.aload_n 1, 1) := dk_43 (dk_at dksX1_isHeavier_0 4 rfl rfl)
theorem dX1_isHeavier_5 : decode cX1_isHeavier 5 = .ok (.getfield 134, 3) := dk_180 0 134 (dk_at dksX1_isHeavier_0 5 rfl rfl)
theorem dX1_isHeavier_8 : decode cX1_isHeavier 8 = .ok (.if_icmp .eq 22, 3) := dk_159 0 22 (dk_at dksX1_isHeavier_0 8 rfl rfl)
theorem dX1_isHeavier_11 : decode cX1_isHeavier 11 = .ok (.aload_n 0, 1) := dk_42 (dk_at dksX1_isHeavier_0 11 rfl rfl)
theorem dX1_isHeavier_12 : decode cX1_isHeavier 12 = .ok (.getfield 134, 3) := dk_180 0 134 (dk_at dksX1_isHeavier_0 12 rfl rfl)
theorem dX1_isHeavier_15 : decode cX1_isHeavier 15 = .ok (.aload_n 1, 1) := dk_43 (dk_at dksX1_isHeavier_0 15 rfl rfl)
theorem dX1_isHeavier_16 : decode cX1_isHeavier 16 = .ok (.getfield 134, 3) := dk_180 0 134 (dk_at dksX1_isHeavier_0 16 rfl rfl)
theorem dX1_isHeavier_19 : decode cX1_isHeavier 19 = .ok (.if_icmp .le 7, 3) := dk_164 0 7 (dk_at dksX1_isHeavier_0 19 rfl rfl)
theorem dX1_isHeavier_22 : decode cX1_isHeavier 22 = .ok (.iconst 1, 1) := dk_4 (dk_at dksX1_isHeavier_0 22 rfl rfl)
theorem dX1_isHeavier_23 : decode cX1_isHeavier 23 = .ok (.goto 23, 3) := dk_167 0 23 (dk_at dksX1_isHeavier_1 0 rfl rfl)
theorem dX1_isHeavier_26 : decode cX1_isHeavier 26 = .ok (.iconst 0, 1) := dk_3 (dk_at dksX1_isHeavier_1 3 rfl rfl)
theorem dX1_isHeavier_27 : decode cX1_isHeavier 27 = .ok (.goto 19, 3) := dk_167 0 19 (dk_at dksX1_isHeavier_1 4 rfl rfl)
theorem dX1_isHeavier_30 : decode cX1_isHeavier 30 = .ok (.aload_n 0, 1) := dk_42 (dk_at dksX1_isHeavier_1 7 rfl rfl)
theorem dX1_isHeavier_31 : decode cX1_isHeavier 31 = .ok (.getfield 231, 3) := dk_180 0 231 (dk_at dksX1_isHeavier_1 8 rfl rfl)
theorem dX1_isHeavier_34 : decode cX1_isHeavier 34 = .ok (.aload_n 1, 1) := dk_43 (dk_at dksX1_isHeavier_1 11 rfl rfl)
theorem dX1_isHeavier_35 : decode cX1_isHeavier 35 = .ok (.getfield 231, 3) := dk_180 0 231 (dk_at dksX1_isHeavier_1 12 rfl rfl)
theorem dX1_isHeavier_38 : decode cX1_isHeavier 38 = .ok (.if_icmp .ge 7, 3) := dk_162 0 7 (dk_at dksX1_isHeavier_1 15 rfl rfl)
theorem dX1_isHeavier_41 : decode cX1_isHeavier 41 = .ok (.iconst 1, 1) := dk_4 (dk_at dksX1_isHeavier_1 18 rfl rfl)
theorem dX1_isHeavier_42 : decode cX1_isHeavier 42 = .ok (.goto 4, 3) := dk_167 0 4 (dk_at dksX1_isHeavier_1 19 rfl rfl)
theorem dX1_isHeavier_45 : decode cX1_isHeavier 45 = .ok (.iconst 0, 1) := dk_3 (dk_at dksX1_isHeavier_1 22 rfl rfl)
theorem dX1_isHeavier_46 : decode cX1_isHeavier 46 = .ok (.ireturn, 1) := dk_172 (dk_at dksX1_isHeavier_1 23 rfl rfl)
abbrev cX1_heaviestOverlap : ByteArray := prog_1_method_59_code
def yX1_heaviestOverlap : MethodName := ⟨RX1, "heaviestOverlap", "(III)I"⟩
def dkwX1_heaviestOverlap_1 : List UInt8 := [172]
abbrev dktX1_heaviestOverlap_1 : List UInt8 := dkwX1_heaviestOverlap_1 ++ []
def dkwX1_heaviestOverlap_0 : List UInt8 := [27, 28, 163, 0, 11, 29, 155, 0, 7, 4, 167, 0, 4, 3, 184, 0, 179, 42, 27, 28, 29, 182, 1, 81]
abbrev dktX1_heaviestOverlap_0 : List UInt8 := dkwX1_heaviestOverlap_0 ++ dktX1_heaviestOverlap_1
theorem dksX1_heaviestOverlap_0 : cX1_heaviestOverlap.data.toList.drop 0 = dktX1_heaviestOverlap_0 := by decide +kernel
theorem dksX1_heaviestOverlap_1 : cX1_heaviestOverlap.data.toList.drop 24 = dktX1_heaviestOverlap_1 := dk_seg dksX1_heaviestOverlap_0 24 rfl rfl
theorem dX1_heaviestOverlap_0 : decode cX1_heaviestOverlap 0 = .ok (.iload_n 1, 1) := dk_27 (dk_at dksX1_heaviestOverlap_0 0 rfl rfl)
theorem dX1_heaviestOverlap_1 : decode cX1_heaviestOverlap 1 = .ok (.iload_n 2, 1) := dk_28 (dk_at dksX1_heaviestOverlap_0 1 rfl rfl)
theorem dX1_heaviestOverlap_2 : decode cX1_heaviestOverlap 2 = .ok (.if_icmp .gt 11, 3) := dk_163 0 11 (dk_at dksX1_heaviestOverlap_0 2 rfl rfl)
theorem dX1_heaviestOverlap_5 : decode cX1_heaviestOverlap 5 = .ok (.iload_n 3, 1) := dk_29 (dk_at dksX1_heaviestOverlap_0 5 rfl rfl)
theorem dX1_heaviestOverlap_6 : decode cX1_heaviestOverlap 6 = .ok (.ifCond .lt 7, 3) := dk_155 0 7 (dk_at dksX1_heaviestOverlap_0 6 rfl rfl)
theorem dX1_heaviestOverlap_9 : decode cX1_heaviestOverlap 9 = .ok (.iconst 1, 1) := dk_4 (dk_at dksX1_heaviestOverlap_0 9 rfl rfl)
theorem dX1_heaviestOverlap_10 : decode cX1_heaviestOverlap 10 = .ok (.goto 4, 3) := dk_167 0 4 (dk_at dksX1_heaviestOverlap_0 10 rfl rfl)
theorem dX1_heaviestOverlap_13 : decode cX1_heaviestOverlap 13 = .ok (.iconst 0, 1) := dk_3 (dk_at dksX1_heaviestOverlap_0 13 rfl rfl)
theorem dX1_heaviestOverlap_14 : decode cX1_heaviestOverlap 14 = .ok (.invokestatic 179, 3) := dk_184 0 179 (dk_at dksX1_heaviestOverlap_0 14 rfl rfl)
theorem dX1_heaviestOverlap_17 : decode cX1_heaviestOverlap 17 = .ok (.aload_n 0, 1) := dk_42 (dk_at dksX1_heaviestOverlap_0 17 rfl rfl)
theorem dX1_heaviestOverlap_18 : decode cX1_heaviestOverlap 18 = .ok (.iload_n 1, 1) := dk_27 (dk_at dksX1_heaviestOverlap_0 18 rfl rfl)
theorem dX1_heaviestOverlap_19 : decode cX1_heaviestOverlap 19 = .ok (.iload_n 2, 1) := dk_28 (dk_at dksX1_heaviestOverlap_0 19 rfl rfl)
theorem dX1_heaviestOverlap_20 : decode cX1_heaviestOverlap 20 = .ok (.iload_n 3, 1) := dk_29 (dk_at dksX1_heaviestOverlap_0 20 rfl rfl)
theorem dX1_heaviestOverlap_21 : decode cX1_heaviestOverlap 21 = .ok (.invokevirtual 337, 3) := dk_182 1 81 (dk_at dksX1_heaviestOverlap_0 21 rfl rfl)
theorem dX1_heaviestOverlap_24 : decode cX1_heaviestOverlap 24 = .ok (.ireturn, 1) := dk_172 (dk_at dksX1_heaviestOverlap_1 0 rfl rfl)
abbrev cX1_firstOverlap : ByteArray := prog_1_method_61_code
def yX1_firstOverlap : MethodName := ⟨RX1, "firstOverlap", "(II)I"⟩
def dkwX1_firstOverlap_1 : List UInt8 := [184, 1, 34, 172]
abbrev dktX1_firstOverlap_1 : List UInt8 := dkwX1_firstOverlap_1 ++ []
def dkwX1_firstOverlap_0 : List UInt8 := [27, 28, 163, 0, 7, 4, 167, 0, 4, 3, 184, 0, 179, 42, 180, 0, 173, 27, 28, 184, 1, 85]
abbrev dktX1_firstOverlap_0 : List UInt8 := dkwX1_firstOverlap_0 ++ dktX1_firstOverlap_1
theorem dksX1_firstOverlap_0 : cX1_firstOverlap.data.toList.drop 0 = dktX1_firstOverlap_0 := by decide +kernel
theorem dksX1_firstOverlap_1 : cX1_firstOverlap.data.toList.drop 22 = dktX1_firstOverlap_1 := dk_seg dksX1_firstOverlap_0 22 rfl rfl
theorem dX1_firstOverlap_0 : decode cX1_firstOverlap 0 = .ok (.iload_n 1, 1) := dk_27 (dk_at dksX1_firstOverlap_0 0 rfl rfl)
theorem dX1_firstOverlap_1 : decode cX1_firstOverlap 1 = .ok (.iload_n 2, 1) := dk_28 (dk_at dksX1_firstOverlap_0 1 rfl rfl)
theorem dX1_firstOverlap_2 : decode cX1_firstOverlap 2 = .ok (.if_icmp .gt 7, 3) := dk_163 0 7 (dk_at dksX1_firstOverlap_0 2 rfl rfl)
theorem dX1_firstOverlap_5 : decode cX1_firstOverlap 5 = .ok (.iconst 1, 1) := dk_4 (dk_at dksX1_firstOverlap_0 5 rfl rfl)
theorem dX1_firstOverlap_6 : decode cX1_firstOverlap 6 = .ok (.goto 4, 3) := dk_167 0 4 (dk_at dksX1_firstOverlap_0 6 rfl rfl)
theorem dX1_firstOverlap_9 : decode cX1_firstOverlap 9 = .ok (.iconst 0, 1) := dk_3 (dk_at dksX1_firstOverlap_0 9 rfl rfl)
theorem dX1_firstOverlap_10 : decode cX1_firstOverlap 10 = .ok (.invokestatic 179, 3) := dk_184 0 179 (dk_at dksX1_firstOverlap_0 10 rfl rfl)
theorem dX1_firstOverlap_13 : decode cX1_firstOverlap 13 = .ok (.aload_n 0, 1) := dk_42 (dk_at dksX1_firstOverlap_0 13 rfl rfl)
theorem dX1_firstOverlap_14 : decode cX1_firstOverlap 14 = .ok (.getfield 173, 3) := dk_180 0 173 (dk_at dksX1_firstOverlap_0 14 rfl rfl)
theorem dX1_firstOverlap_17 : decode cX1_firstOverlap 17 = .ok (.iload_n 1, 1) := dk_27 (dk_at dksX1_firstOverlap_0 17 rfl rfl)
theorem dX1_firstOverlap_18 : decode cX1_firstOverlap 18 = .ok (.iload_n 2, 1) := dk_28 (dk_at dksX1_firstOverlap_0 18 rfl rfl)
theorem dX1_firstOverlap_19 : decode cX1_firstOverlap 19 = .ok (.invokestatic 341, 3) := dk_184 1 85 (dk_at dksX1_firstOverlap_0 19 rfl rfl)
theorem dX1_firstOverlap_22 : decode cX1_firstOverlap 22 = .ok (.invokestatic 290, 3) := dk_184 1 34 (dk_at dksX1_firstOverlap_1 0 rfl rfl)
theorem dX1_firstOverlap_25 : decode cX1_firstOverlap 25 = .ok (.ireturn, 1) := dk_172 (dk_at dksX1_firstOverlap_1 3 rfl rfl)
abbrev cX1_firstIn : ByteArray := prog_1_method_60_code
def yX1_firstIn : MethodName := ⟨RX1, "firstIn", "(LIntervalTree$Node;II)LIntervalTree$Node;"⟩
def dkwX1_firstIn_3 : List UInt8 := [184, 1, 85, 176]
abbrev dktX1_firstIn_3 : List UInt8 := dkwX1_firstIn_3 ++ []
def dkwX1_firstIn_2 : List UInt8 := [180, 0, 129, 154, 0, 15, 42, 180, 0, 110, 27, 161, 0, 7, 42, 167, 0, 12, 42, 180, 0, 170, 27, 28]
abbrev dktX1_firstIn_2 : List UInt8 := dkwX1_firstIn_2 ++ dktX1_firstIn_3
def dkwX1_firstIn_1 : List UInt8 := [180, 0, 163, 27, 28, 184, 1, 85, 78, 45, 199, 0, 11, 42, 180, 0, 107, 28, 164, 0, 5, 45, 176, 42]
abbrev dktX1_firstIn_1 : List UInt8 := dkwX1_firstIn_1 ++ dktX1_firstIn_2
def dkwX1_firstIn_0 : List UInt8 := [42, 198, 0, 18, 42, 180, 0, 176, 153, 0, 11, 42, 180, 1, 42, 27, 162, 0, 5, 1, 176, 42]
abbrev dktX1_firstIn_0 : List UInt8 := dkwX1_firstIn_0 ++ dktX1_firstIn_1
theorem dksX1_firstIn_0 : cX1_firstIn.data.toList.drop 0 = dktX1_firstIn_0 := by decide +kernel
theorem dksX1_firstIn_1 : cX1_firstIn.data.toList.drop 22 = dktX1_firstIn_1 := dk_seg dksX1_firstIn_0 22 rfl rfl
theorem dksX1_firstIn_2 : cX1_firstIn.data.toList.drop 46 = dktX1_firstIn_2 := dk_seg dksX1_firstIn_1 24 rfl rfl
theorem dksX1_firstIn_3 : cX1_firstIn.data.toList.drop 70 = dktX1_firstIn_3 := dk_seg dksX1_firstIn_2 24 rfl rfl
theorem dX1_firstIn_0 : decode cX1_firstIn 0 = .ok (.aload_n 0, 1) := dk_42 (dk_at dksX1_firstIn_0 0 rfl rfl)
theorem dX1_firstIn_1 : decode cX1_firstIn 1 = .ok (.ifnull 18, 3) := dk_198 0 18 (dk_at dksX1_firstIn_0 1 rfl rfl)
theorem dX1_firstIn_4 : decode cX1_firstIn 4 = .ok (.aload_n 0, 1) := dk_42 (dk_at dksX1_firstIn_0 4 rfl rfl)
theorem dX1_firstIn_5 : decode cX1_firstIn 5 = .ok (.getfield 176, 3) := dk_180 0 176 (dk_at dksX1_firstIn_0 5 rfl rfl)
theorem dX1_firstIn_8 : decode cX1_firstIn 8 = .ok (.ifCond .eq 11, 3) := dk_153 0 11 (dk_at dksX1_firstIn_0 8 rfl rfl)
theorem dX1_firstIn_11 : decode cX1_firstIn 11 = .ok (.aload_n 0, 1) := dk_42 (dk_at dksX1_firstIn_0 11 rfl rfl)
theorem dX1_firstIn_12 : decode cX1_firstIn 12 = .ok (.getfield 298, 3) := dk_180 1 42 (dk_at dksX1_firstIn_0 12 rfl rfl)
theorem dX1_firstIn_15 : decode cX1_firstIn 15 = .ok (.iload_n 1, 1) := dk_27 (dk_at dksX1_firstIn_0 15 rfl rfl)
theorem dX1_firstIn_16 : decode cX1_firstIn 16 = .ok (.if_icmp .ge 5, 3) := dk_162 0 5 (dk_at dksX1_firstIn_0 16 rfl rfl)
theorem dX1_firstIn_19 : decode cX1_firstIn 19 = .ok (.aconst_null, 1) := dk_1 (dk_at dksX1_firstIn_0 19 rfl rfl)
theorem dX1_firstIn_20 : decode cX1_firstIn 20 = .ok (.areturn, 1) := dk_176 (dk_at dksX1_firstIn_0 20 rfl rfl)
theorem dX1_firstIn_21 : decode cX1_firstIn 21 = .ok (.aload_n 0, 1) := dk_42 (dk_at dksX1_firstIn_0 21 rfl rfl)
theorem dX1_firstIn_22 : decode cX1_firstIn 22 = .ok (.getfield 163, 3) := dk_180 0 163 (dk_at dksX1_firstIn_1 0 rfl rfl)
theorem dX1_firstIn_25 : decode cX1_firstIn 25 = .ok (.iload_n 1, 1) := dk_27 (dk_at dksX1_firstIn_1 3 rfl rfl)
theorem dX1_firstIn_26 : decode cX1_firstIn 26 = .ok (.iload_n 2, 1) := dk_28 (dk_at dksX1_firstIn_1 4 rfl rfl)
theorem dX1_firstIn_27 : decode cX1_firstIn 27 = .ok (.invokestatic 341, 3) := dk_184 1 85 (dk_at dksX1_firstIn_1 5 rfl rfl)
theorem dX1_firstIn_30 : decode cX1_firstIn 30 = .ok (.astore_n 3, 1) := dk_78 (dk_at dksX1_firstIn_1 8 rfl rfl)
theorem dX1_firstIn_31 : decode cX1_firstIn 31 = .ok (.aload_n 3, 1) := dk_45 (dk_at dksX1_firstIn_1 9 rfl rfl)
theorem dX1_firstIn_32 : decode cX1_firstIn 32 = .ok (.ifnonnull 11, 3) := dk_199 0 11 (dk_at dksX1_firstIn_1 10 rfl rfl)
theorem dX1_firstIn_35 : decode cX1_firstIn 35 = .ok (.aload_n 0, 1) := dk_42 (dk_at dksX1_firstIn_1 13 rfl rfl)
theorem dX1_firstIn_36 : decode cX1_firstIn 36 = .ok (.getfield 107, 3) := dk_180 0 107 (dk_at dksX1_firstIn_1 14 rfl rfl)
theorem dX1_firstIn_39 : decode cX1_firstIn 39 = .ok (.iload_n 2, 1) := dk_28 (dk_at dksX1_firstIn_1 17 rfl rfl)
theorem dX1_firstIn_40 : decode cX1_firstIn 40 = .ok (.if_icmp .le 5, 3) := dk_164 0 5 (dk_at dksX1_firstIn_1 18 rfl rfl)
theorem dX1_firstIn_43 : decode cX1_firstIn 43 = .ok (.aload_n 3, 1) := dk_45 (dk_at dksX1_firstIn_1 21 rfl rfl)
theorem dX1_firstIn_44 : decode cX1_firstIn 44 = .ok (.areturn, 1) := dk_176 (dk_at dksX1_firstIn_1 22 rfl rfl)
theorem dX1_firstIn_45 : decode cX1_firstIn 45 = .ok (.aload_n 0, 1) := dk_42 (dk_at dksX1_firstIn_1 23 rfl rfl)
theorem dX1_firstIn_46 : decode cX1_firstIn 46 = .ok (.getfield 129, 3) := dk_180 0 129 (dk_at dksX1_firstIn_2 0 rfl rfl)
theorem dX1_firstIn_49 : decode cX1_firstIn 49 = .ok (.ifCond .ne 15, 3) := dk_154 0 15 (dk_at dksX1_firstIn_2 3 rfl rfl)
theorem dX1_firstIn_52 : decode cX1_firstIn 52 = .ok (.aload_n 0, 1) := dk_42 (dk_at dksX1_firstIn_2 6 rfl rfl)
theorem dX1_firstIn_53 : decode cX1_firstIn 53 = .ok (.getfield 110, 3) := dk_180 0 110 (dk_at dksX1_firstIn_2 7 rfl rfl)
theorem dX1_firstIn_56 : decode cX1_firstIn 56 = .ok (.iload_n 1, 1) := dk_27 (dk_at dksX1_firstIn_2 10 rfl rfl)
theorem dX1_firstIn_57 : decode cX1_firstIn 57 = .ok (.if_icmp .lt 7, 3) := dk_161 0 7 (dk_at dksX1_firstIn_2 11 rfl rfl)
theorem dX1_firstIn_60 : decode cX1_firstIn 60 = .ok (.aload_n 0, 1) := dk_42 (dk_at dksX1_firstIn_2 14 rfl rfl)
theorem dX1_firstIn_61 : decode cX1_firstIn 61 = .ok (.goto 12, 3) := dk_167 0 12 (dk_at dksX1_firstIn_2 15 rfl rfl)
theorem dX1_firstIn_64 : decode cX1_firstIn 64 = .ok (.aload_n 0, 1) := dk_42 (dk_at dksX1_firstIn_2 18 rfl rfl)
theorem dX1_firstIn_65 : decode cX1_firstIn 65 = .ok (.getfield 170, 3) := dk_180 0 170 (dk_at dksX1_firstIn_2 19 rfl rfl)
theorem dX1_firstIn_68 : decode cX1_firstIn 68 = .ok (.iload_n 1, 1) := dk_27 (dk_at dksX1_firstIn_2 22 rfl rfl)
theorem dX1_firstIn_69 : decode cX1_firstIn 69 = .ok (.iload_n 2, 1) := dk_28 (dk_at dksX1_firstIn_2 23 rfl rfl)
theorem dX1_firstIn_70 : decode cX1_firstIn 70 = .ok (.invokestatic 341, 3) := dk_184 1 85 (dk_at dksX1_firstIn_3 0 rfl rfl)
theorem dX1_firstIn_73 : decode cX1_firstIn 73 = .ok (.areturn, 1) := dk_176 (dk_at dksX1_firstIn_3 3 rfl rfl)
abbrev cX1_rank : ByteArray := prog_1_method_66_code
def yX1_rank : MethodName := ⟨RX1, "rank", "(I)I"⟩
def dkwX1_rank_4 : List UInt8 := [180, 0, 176, 96, 62, 25, 4, 180, 0, 137, 58, 4, 167, 255, 180, 29, 172]
abbrev dktX1_rank_4 : List UInt8 := dkwX1_rank_4 ++ []
def dkwX1_rank_3 : List UInt8 := [25, 4, 180, 0, 137, 180, 0, 163, 199, 0, 7, 3, 167, 0, 14, 25, 4, 180, 0, 137, 180, 0, 163]
abbrev dktX1_rank_3 : List UInt8 := dkwX1_rank_3 ++ dktX1_rank_4
def dkwX1_rank_2 : List UInt8 := [166, 0, 51, 29, 25, 4, 180, 0, 137, 180, 0, 129, 153, 0, 7, 3, 167, 0, 4, 4, 96, 62, 29]
abbrev dktX1_rank_2 : List UInt8 := dkwX1_rank_2 ++ dktX1_rank_3
def dkwX1_rank_1 : List UInt8 := [62, 44, 58, 4, 25, 4, 180, 0, 137, 198, 0, 74, 25, 4, 180, 0, 137, 180, 0, 170, 25, 4]
abbrev dktX1_rank_1 : List UInt8 := dkwX1_rank_1 ++ dktX1_rank_2
def dkwX1_rank_0 : List UInt8 := [42, 27, 182, 0, 238, 77, 44, 180, 0, 163, 199, 0, 7, 3, 167, 0, 10, 44, 180, 0, 163, 180, 0, 176]
abbrev dktX1_rank_0 : List UInt8 := dkwX1_rank_0 ++ dktX1_rank_1
theorem dksX1_rank_0 : cX1_rank.data.toList.drop 0 = dktX1_rank_0 := by decide +kernel
theorem dksX1_rank_1 : cX1_rank.data.toList.drop 24 = dktX1_rank_1 := dk_seg dksX1_rank_0 24 rfl rfl
theorem dksX1_rank_2 : cX1_rank.data.toList.drop 46 = dktX1_rank_2 := dk_seg dksX1_rank_1 22 rfl rfl
theorem dksX1_rank_3 : cX1_rank.data.toList.drop 69 = dktX1_rank_3 := dk_seg dksX1_rank_2 23 rfl rfl
theorem dksX1_rank_4 : cX1_rank.data.toList.drop 92 = dktX1_rank_4 := dk_seg dksX1_rank_3 23 rfl rfl
theorem dX1_rank_0 : decode cX1_rank 0 = .ok (.aload_n 0, 1) := dk_42 (dk_at dksX1_rank_0 0 rfl rfl)
theorem dX1_rank_1 : decode cX1_rank 1 = .ok (.iload_n 1, 1) := dk_27 (dk_at dksX1_rank_0 1 rfl rfl)
theorem dX1_rank_2 : decode cX1_rank 2 = .ok (.invokevirtual 238, 3) := dk_182 0 238 (dk_at dksX1_rank_0 2 rfl rfl)
theorem dX1_rank_5 : decode cX1_rank 5 = .ok (.astore_n 2, 1) := dk_77 (dk_at dksX1_rank_0 5 rfl rfl)
theorem dX1_rank_6 : decode cX1_rank 6 = .ok (.aload_n 2, 1) := dk_44 (dk_at dksX1_rank_0 6 rfl rfl)
theorem dX1_rank_7 : decode cX1_rank 7 = .ok (.getfield 163, 3) := dk_180 0 163 (dk_at dksX1_rank_0 7 rfl rfl)
theorem dX1_rank_10 : decode cX1_rank 10 = .ok (.ifnonnull 7, 3) := dk_199 0 7 (dk_at dksX1_rank_0 10 rfl rfl)
theorem dX1_rank_13 : decode cX1_rank 13 = .ok (.iconst 0, 1) := dk_3 (dk_at dksX1_rank_0 13 rfl rfl)
theorem dX1_rank_14 : decode cX1_rank 14 = .ok (.goto 10, 3) := dk_167 0 10 (dk_at dksX1_rank_0 14 rfl rfl)
theorem dX1_rank_17 : decode cX1_rank 17 = .ok (.aload_n 2, 1) := dk_44 (dk_at dksX1_rank_0 17 rfl rfl)
theorem dX1_rank_18 : decode cX1_rank 18 = .ok (.getfield 163, 3) := dk_180 0 163 (dk_at dksX1_rank_0 18 rfl rfl)
theorem dX1_rank_21 : decode cX1_rank 21 = .ok (.getfield 176, 3) := dk_180 0 176 (dk_at dksX1_rank_0 21 rfl rfl)
theorem dX1_rank_24 : decode cX1_rank 24 = .ok (.istore_n 3, 1) := dk_62 (dk_at dksX1_rank_1 0 rfl rfl)
theorem dX1_rank_25 : decode cX1_rank 25 = .ok (.aload_n 2, 1) := dk_44 (dk_at dksX1_rank_1 1 rfl rfl)
theorem dX1_rank_26 : decode cX1_rank 26 = .ok (.astore 4, 2) := dk_58 4 (dk_at dksX1_rank_1 2 rfl rfl)
theorem dX1_rank_28 : decode cX1_rank 28 = .ok (.aload 4, 2) := dk_25 4 (dk_at dksX1_rank_1 4 rfl rfl)
theorem dX1_rank_30 : decode cX1_rank 30 = .ok (.getfield 137, 3) := dk_180 0 137 (dk_at dksX1_rank_1 6 rfl rfl)
theorem dX1_rank_33 : decode cX1_rank 33 = .ok (.ifnull 74, 3) := dk_198 0 74 (dk_at dksX1_rank_1 9 rfl rfl)
theorem dX1_rank_36 : decode cX1_rank 36 = .ok (.aload 4, 2) := dk_25 4 (dk_at dksX1_rank_1 12 rfl rfl)
theorem dX1_rank_38 : decode cX1_rank 38 = .ok (.getfield 137, 3) := dk_180 0 137 (dk_at dksX1_rank_1 14 rfl rfl)
theorem dX1_rank_41 : decode cX1_rank 41 = .ok (.getfield 170, 3) := dk_180 0 170 (dk_at dksX1_rank_1 17 rfl rfl)
theorem dX1_rank_44 : decode cX1_rank 44 = .ok (.aload 4, 2) := dk_25 4 (dk_at dksX1_rank_1 20 rfl rfl)
theorem dX1_rank_46 : decode cX1_rank 46 = .ok (.if_acmp .ne 51, 3) := dk_166 0 51 (dk_at dksX1_rank_2 0 rfl rfl)
theorem dX1_rank_49 : decode cX1_rank 49 = .ok (.iload_n 3, 1) := dk_29 (dk_at dksX1_rank_2 3 rfl rfl)
theorem dX1_rank_50 : decode cX1_rank 50 = .ok (.aload 4, 2) := dk_25 4 (dk_at dksX1_rank_2 4 rfl rfl)
theorem dX1_rank_52 : decode cX1_rank 52 = .ok (.getfield 137, 3) := dk_180 0 137 (dk_at dksX1_rank_2 6 rfl rfl)
theorem dX1_rank_55 : decode cX1_rank 55 = .ok (.getfield 129, 3) := dk_180 0 129 (dk_at dksX1_rank_2 9 rfl rfl)
theorem dX1_rank_58 : decode cX1_rank 58 = .ok (.ifCond .eq 7, 3) := dk_153 0 7 (dk_at dksX1_rank_2 12 rfl rfl)
theorem dX1_rank_61 : decode cX1_rank 61 = .ok (.iconst 0, 1) := dk_3 (dk_at dksX1_rank_2 15 rfl rfl)
theorem dX1_rank_62 : decode cX1_rank 62 = .ok (.goto 4, 3) := dk_167 0 4 (dk_at dksX1_rank_2 16 rfl rfl)
theorem dX1_rank_65 : decode cX1_rank 65 = .ok (.iconst 1, 1) := dk_4 (dk_at dksX1_rank_2 19 rfl rfl)
theorem dX1_rank_66 : decode cX1_rank 66 = .ok (.iadd, 1) := dk_96 (dk_at dksX1_rank_2 20 rfl rfl)
theorem dX1_rank_67 : decode cX1_rank 67 = .ok (.istore_n 3, 1) := dk_62 (dk_at dksX1_rank_2 21 rfl rfl)
theorem dX1_rank_68 : decode cX1_rank 68 = .ok (.iload_n 3, 1) := dk_29 (dk_at dksX1_rank_2 22 rfl rfl)
theorem dX1_rank_69 : decode cX1_rank 69 = .ok (.aload 4, 2) := dk_25 4 (dk_at dksX1_rank_3 0 rfl rfl)
theorem dX1_rank_71 : decode cX1_rank 71 = .ok (.getfield 137, 3) := dk_180 0 137 (dk_at dksX1_rank_3 2 rfl rfl)
theorem dX1_rank_74 : decode cX1_rank 74 = .ok (.getfield 163, 3) := dk_180 0 163 (dk_at dksX1_rank_3 5 rfl rfl)
theorem dX1_rank_77 : decode cX1_rank 77 = .ok (.ifnonnull 7, 3) := dk_199 0 7 (dk_at dksX1_rank_3 8 rfl rfl)
theorem dX1_rank_80 : decode cX1_rank 80 = .ok (.iconst 0, 1) := dk_3 (dk_at dksX1_rank_3 11 rfl rfl)
theorem dX1_rank_81 : decode cX1_rank 81 = .ok (.goto 14, 3) := dk_167 0 14 (dk_at dksX1_rank_3 12 rfl rfl)
theorem dX1_rank_84 : decode cX1_rank 84 = .ok (.aload 4, 2) := dk_25 4 (dk_at dksX1_rank_3 15 rfl rfl)
theorem dX1_rank_86 : decode cX1_rank 86 = .ok (.getfield 137, 3) := dk_180 0 137 (dk_at dksX1_rank_3 17 rfl rfl)
theorem dX1_rank_89 : decode cX1_rank 89 = .ok (.getfield 163, 3) := dk_180 0 163 (dk_at dksX1_rank_3 20 rfl rfl)
theorem dX1_rank_92 : decode cX1_rank 92 = .ok (.getfield 176, 3) := dk_180 0 176 (dk_at dksX1_rank_4 0 rfl rfl)
theorem dX1_rank_95 : decode cX1_rank 95 = .ok (.iadd, 1) := dk_96 (dk_at dksX1_rank_4 3 rfl rfl)
theorem dX1_rank_96 : decode cX1_rank 96 = .ok (.istore_n 3, 1) := dk_62 (dk_at dksX1_rank_4 4 rfl rfl)
theorem dX1_rank_97 : decode cX1_rank 97 = .ok (.aload 4, 2) := dk_25 4 (dk_at dksX1_rank_4 5 rfl rfl)
theorem dX1_rank_99 : decode cX1_rank 99 = .ok (.getfield 137, 3) := dk_180 0 137 (dk_at dksX1_rank_4 7 rfl rfl)
theorem dX1_rank_102 : decode cX1_rank 102 = .ok (.astore 4, 2) := dk_58 4 (dk_at dksX1_rank_4 10 rfl rfl)
theorem dX1_rank_104 : decode cX1_rank 104 = .ok (.goto (-76), 3) := dk_167 255 180 (dk_at dksX1_rank_4 12 rfl rfl)
theorem dX1_rank_107 : decode cX1_rank 107 = .ok (.iload_n 3, 1) := dk_29 (dk_at dksX1_rank_4 15 rfl rfl)
theorem dX1_rank_108 : decode cX1_rank 108 = .ok (.ireturn, 1) := dk_172 (dk_at dksX1_rank_4 16 rfl rfl)
abbrev cX1_select : ByteArray := prog_1_method_67_code
def yX1_select : MethodName := ⟨RX1, "select", "(I)I"⟩
def dkwX1_select_4 : List UInt8 := [167, 255, 193]
abbrev dktX1_select_4 : List UInt8 := dkwX1_select_4 ++ []
def dkwX1_select_3 : List UInt8 := [44, 180, 0, 129, 154, 0, 15, 29, 154, 0, 8, 44, 180, 0, 231, 172, 132, 3, 255, 44, 180, 0, 170, 77]
abbrev dktX1_select_3 : List UInt8 := dkwX1_select_3 ++ dktX1_select_4
def dkwX1_select_2 : List UInt8 := [180, 0, 176, 54, 4, 29, 21, 4, 162, 0, 11, 44, 180, 0, 163, 77, 167, 255, 225, 29, 21, 4, 100, 62]
abbrev dktX1_select_2 : List UInt8 := dkwX1_select_2 ++ dktX1_select_3
def dkwX1_select_1 : List UInt8 := [191, 42, 180, 0, 173, 77, 27, 62, 44, 180, 0, 163, 199, 0, 7, 3, 167, 0, 10, 44, 180, 0, 163]
abbrev dktX1_select_1 : List UInt8 := dkwX1_select_1 ++ dktX1_select_2
def dkwX1_select_0 : List UInt8 := [27, 3, 42, 182, 1, 103, 4, 100, 184, 0, 116, 154, 0, 14, 187, 1, 106, 89, 19, 1, 108, 183, 1, 110]
abbrev dktX1_select_0 : List UInt8 := dkwX1_select_0 ++ dktX1_select_1
theorem dksX1_select_0 : cX1_select.data.toList.drop 0 = dktX1_select_0 := by decide +kernel
theorem dksX1_select_1 : cX1_select.data.toList.drop 24 = dktX1_select_1 := dk_seg dksX1_select_0 24 rfl rfl
theorem dksX1_select_2 : cX1_select.data.toList.drop 47 = dktX1_select_2 := dk_seg dksX1_select_1 23 rfl rfl
theorem dksX1_select_3 : cX1_select.data.toList.drop 71 = dktX1_select_3 := dk_seg dksX1_select_2 24 rfl rfl
theorem dksX1_select_4 : cX1_select.data.toList.drop 95 = dktX1_select_4 := dk_seg dksX1_select_3 24 rfl rfl
theorem dX1_select_0 : decode cX1_select 0 = .ok (.iload_n 1, 1) := dk_27 (dk_at dksX1_select_0 0 rfl rfl)
theorem dX1_select_1 : decode cX1_select 1 = .ok (.iconst 0, 1) := dk_3 (dk_at dksX1_select_0 1 rfl rfl)
theorem dX1_select_2 : decode cX1_select 2 = .ok (.aload_n 0, 1) := dk_42 (dk_at dksX1_select_0 2 rfl rfl)
theorem dX1_select_3 : decode cX1_select 3 = .ok (.invokevirtual 359, 3) := dk_182 1 103 (dk_at dksX1_select_0 3 rfl rfl)
theorem dX1_select_6 : decode cX1_select 6 = .ok (.iconst 1, 1) := dk_4 (dk_at dksX1_select_0 6 rfl rfl)
theorem dX1_select_7 : decode cX1_select 7 = .ok (.isub, 1) := dk_100 (dk_at dksX1_select_0 7 rfl rfl)
theorem dX1_select_8 : decode cX1_select 8 = .ok (.invokestatic 116, 3) := dk_184 0 116 (dk_at dksX1_select_0 8 rfl rfl)
theorem dX1_select_11 : decode cX1_select 11 = .ok (.ifCond .ne 14, 3) := dk_154 0 14 (dk_at dksX1_select_0 11 rfl rfl)
theorem dX1_select_14 : decode cX1_select 14 = .ok (.new 362, 3) := dk_187 1 106 (dk_at dksX1_select_0 14 rfl rfl)
theorem dX1_select_17 : decode cX1_select 17 = .ok (.dup, 1) := dk_89 (dk_at dksX1_select_0 17 rfl rfl)
theorem dX1_select_18 : decode cX1_select 18 = .ok (.ldc_w 364, 3) := dk_19 1 108 (dk_at dksX1_select_0 18 rfl rfl)
theorem dX1_select_21 : decode cX1_select 21 = .ok (.invokespecial 366, 3) := dk_183 1 110 (dk_at dksX1_select_0 21 rfl rfl)
theorem dX1_select_24 : decode cX1_select 24 = .ok (.athrow, 1) := dk_191 (dk_at dksX1_select_1 0 rfl rfl)
theorem dX1_select_25 : decode cX1_select 25 = .ok (.aload_n 0, 1) := dk_42 (dk_at dksX1_select_1 1 rfl rfl)
theorem dX1_select_26 : decode cX1_select 26 = .ok (.getfield 173, 3) := dk_180 0 173 (dk_at dksX1_select_1 2 rfl rfl)
theorem dX1_select_29 : decode cX1_select 29 = .ok (.astore_n 2, 1) := dk_77 (dk_at dksX1_select_1 5 rfl rfl)
theorem dX1_select_30 : decode cX1_select 30 = .ok (.iload_n 1, 1) := dk_27 (dk_at dksX1_select_1 6 rfl rfl)
theorem dX1_select_31 : decode cX1_select 31 = .ok (.istore_n 3, 1) := dk_62 (dk_at dksX1_select_1 7 rfl rfl)
theorem dX1_select_32 : decode cX1_select 32 = .ok (.aload_n 2, 1) := dk_44 (dk_at dksX1_select_1 8 rfl rfl)
theorem dX1_select_33 : decode cX1_select 33 = .ok (.getfield 163, 3) := dk_180 0 163 (dk_at dksX1_select_1 9 rfl rfl)
theorem dX1_select_36 : decode cX1_select 36 = .ok (.ifnonnull 7, 3) := dk_199 0 7 (dk_at dksX1_select_1 12 rfl rfl)
theorem dX1_select_39 : decode cX1_select 39 = .ok (.iconst 0, 1) := dk_3 (dk_at dksX1_select_1 15 rfl rfl)
theorem dX1_select_40 : decode cX1_select 40 = .ok (.goto 10, 3) := dk_167 0 10 (dk_at dksX1_select_1 16 rfl rfl)
theorem dX1_select_43 : decode cX1_select 43 = .ok (.aload_n 2, 1) := dk_44 (dk_at dksX1_select_1 19 rfl rfl)
theorem dX1_select_44 : decode cX1_select 44 = .ok (.getfield 163, 3) := dk_180 0 163 (dk_at dksX1_select_1 20 rfl rfl)
theorem dX1_select_47 : decode cX1_select 47 = .ok (.getfield 176, 3) := dk_180 0 176 (dk_at dksX1_select_2 0 rfl rfl)
theorem dX1_select_50 : decode cX1_select 50 = .ok (.istore 4, 2) := dk_54 4 (dk_at dksX1_select_2 3 rfl rfl)
theorem dX1_select_52 : decode cX1_select 52 = .ok (.iload_n 3, 1) := dk_29 (dk_at dksX1_select_2 5 rfl rfl)
theorem dX1_select_53 : decode cX1_select 53 = .ok (.iload 4, 2) := dk_21 4 (dk_at dksX1_select_2 6 rfl rfl)
theorem dX1_select_55 : decode cX1_select 55 = .ok (.if_icmp .ge 11, 3) := dk_162 0 11 (dk_at dksX1_select_2 8 rfl rfl)
theorem dX1_select_58 : decode cX1_select 58 = .ok (.aload_n 2, 1) := dk_44 (dk_at dksX1_select_2 11 rfl rfl)
theorem dX1_select_59 : decode cX1_select 59 = .ok (.getfield 163, 3) := dk_180 0 163 (dk_at dksX1_select_2 12 rfl rfl)
theorem dX1_select_62 : decode cX1_select 62 = .ok (.astore_n 2, 1) := dk_77 (dk_at dksX1_select_2 15 rfl rfl)
theorem dX1_select_63 : decode cX1_select 63 = .ok (.goto (-31), 3) := dk_167 255 225 (dk_at dksX1_select_2 16 rfl rfl)
theorem dX1_select_66 : decode cX1_select 66 = .ok (.iload_n 3, 1) := dk_29 (dk_at dksX1_select_2 19 rfl rfl)
theorem dX1_select_67 : decode cX1_select 67 = .ok (.iload 4, 2) := dk_21 4 (dk_at dksX1_select_2 20 rfl rfl)
theorem dX1_select_69 : decode cX1_select 69 = .ok (.isub, 1) := dk_100 (dk_at dksX1_select_2 22 rfl rfl)
theorem dX1_select_70 : decode cX1_select 70 = .ok (.istore_n 3, 1) := dk_62 (dk_at dksX1_select_2 23 rfl rfl)
theorem dX1_select_71 : decode cX1_select 71 = .ok (.aload_n 2, 1) := dk_44 (dk_at dksX1_select_3 0 rfl rfl)
theorem dX1_select_72 : decode cX1_select 72 = .ok (.getfield 129, 3) := dk_180 0 129 (dk_at dksX1_select_3 1 rfl rfl)
theorem dX1_select_75 : decode cX1_select 75 = .ok (.ifCond .ne 15, 3) := dk_154 0 15 (dk_at dksX1_select_3 4 rfl rfl)
theorem dX1_select_78 : decode cX1_select 78 = .ok (.iload_n 3, 1) := dk_29 (dk_at dksX1_select_3 7 rfl rfl)
theorem dX1_select_79 : decode cX1_select 79 = .ok (.ifCond .ne 8, 3) := dk_154 0 8 (dk_at dksX1_select_3 8 rfl rfl)
theorem dX1_select_82 : decode cX1_select 82 = .ok (.aload_n 2, 1) := dk_44 (dk_at dksX1_select_3 11 rfl rfl)
theorem dX1_select_83 : decode cX1_select 83 = .ok (.getfield 231, 3) := dk_180 0 231 (dk_at dksX1_select_3 12 rfl rfl)
theorem dX1_select_86 : decode cX1_select 86 = .ok (.ireturn, 1) := dk_172 (dk_at dksX1_select_3 15 rfl rfl)
theorem dX1_select_87 : decode cX1_select 87 = .ok (.iinc 3 (-1), 3) := dk_132 3 255 (dk_at dksX1_select_3 16 rfl rfl)
theorem dX1_select_90 : decode cX1_select 90 = .ok (.aload_n 2, 1) := dk_44 (dk_at dksX1_select_3 19 rfl rfl)
theorem dX1_select_91 : decode cX1_select 91 = .ok (.getfield 170, 3) := dk_180 0 170 (dk_at dksX1_select_3 20 rfl rfl)
theorem dX1_select_94 : decode cX1_select 94 = .ok (.astore_n 2, 1) := dk_77 (dk_at dksX1_select_3 23 rfl rfl)
theorem dX1_select_95 : decode cX1_select 95 = .ok (.goto (-63), 3) := dk_167 255 193 (dk_at dksX1_select_4 0 rfl rfl)
abbrev cX1_nearest : ByteArray := prog_1_method_69_code
def yX1_nearest : MethodName := ⟨RX1, "nearest", "(I)I"⟩
def dkwX1_nearest_1 : List UInt8 := [27, 186, 1, 117, 0, 0, 182, 0, 249, 42, 180, 1, 111, 184, 1, 34, 172]
abbrev dktX1_nearest_1 : List UInt8 := dkwX1_nearest_1 ++ []
def dkwX1_nearest_0 : List UInt8 := [27, 17, 248, 48, 17, 7, 208, 184, 0, 116, 184, 0, 179, 42, 1, 181, 1, 111, 42, 42, 180, 0, 173, 42]
abbrev dktX1_nearest_0 : List UInt8 := dkwX1_nearest_0 ++ dktX1_nearest_1
theorem dksX1_nearest_0 : cX1_nearest.data.toList.drop 0 = dktX1_nearest_0 := by decide +kernel
theorem dksX1_nearest_1 : cX1_nearest.data.toList.drop 24 = dktX1_nearest_1 := dk_seg dksX1_nearest_0 24 rfl rfl
theorem dX1_nearest_0 : decode cX1_nearest 0 = .ok (.iload_n 1, 1) := dk_27 (dk_at dksX1_nearest_0 0 rfl rfl)
theorem dX1_nearest_1 : decode cX1_nearest 1 = .ok (.sipush (-2000), 3) := dk_17 248 48 (dk_at dksX1_nearest_0 1 rfl rfl)
theorem dX1_nearest_4 : decode cX1_nearest 4 = .ok (.sipush 2000, 3) := dk_17 7 208 (dk_at dksX1_nearest_0 4 rfl rfl)
theorem dX1_nearest_7 : decode cX1_nearest 7 = .ok (.invokestatic 116, 3) := dk_184 0 116 (dk_at dksX1_nearest_0 7 rfl rfl)
theorem dX1_nearest_10 : decode cX1_nearest 10 = .ok (.invokestatic 179, 3) := dk_184 0 179 (dk_at dksX1_nearest_0 10 rfl rfl)
theorem dX1_nearest_13 : decode cX1_nearest 13 = .ok (.aload_n 0, 1) := dk_42 (dk_at dksX1_nearest_0 13 rfl rfl)
theorem dX1_nearest_14 : decode cX1_nearest 14 = .ok (.aconst_null, 1) := dk_1 (dk_at dksX1_nearest_0 14 rfl rfl)
theorem dX1_nearest_15 : decode cX1_nearest 15 = .ok (.putfield 367, 3) := dk_181 1 111 (dk_at dksX1_nearest_0 15 rfl rfl)
theorem dX1_nearest_18 : decode cX1_nearest 18 = .ok (.aload_n 0, 1) := dk_42 (dk_at dksX1_nearest_0 18 rfl rfl)
theorem dX1_nearest_19 : decode cX1_nearest 19 = .ok (.aload_n 0, 1) := dk_42 (dk_at dksX1_nearest_0 19 rfl rfl)
theorem dX1_nearest_20 : decode cX1_nearest 20 = .ok (.getfield 173, 3) := dk_180 0 173 (dk_at dksX1_nearest_0 20 rfl rfl)
theorem dX1_nearest_23 : decode cX1_nearest 23 = .ok (.aload_n 0, 1) := dk_42 (dk_at dksX1_nearest_0 23 rfl rfl)
theorem dX1_nearest_24 : decode cX1_nearest 24 = .ok (.iload_n 1, 1) := dk_27 (dk_at dksX1_nearest_1 0 rfl rfl)
theorem dX1_nearest_25 : decode cX1_nearest 25 = .ok (.invokedynamic 373, 5) := by decide +kernel
theorem dX1_nearest_30 : decode cX1_nearest 30 = .ok (.invokevirtual 249, 3) := dk_182 0 249 (dk_at dksX1_nearest_1 6 rfl rfl)
theorem dX1_nearest_33 : decode cX1_nearest 33 = .ok (.aload_n 0, 1) := dk_42 (dk_at dksX1_nearest_1 9 rfl rfl)
theorem dX1_nearest_34 : decode cX1_nearest 34 = .ok (.getfield 367, 3) := dk_180 1 111 (dk_at dksX1_nearest_1 10 rfl rfl)
theorem dX1_nearest_37 : decode cX1_nearest 37 = .ok (.invokestatic 290, 3) := dk_184 1 34 (dk_at dksX1_nearest_1 13 rfl rfl)
theorem dX1_nearest_40 : decode cX1_nearest 40 = .ok (.ireturn, 1) := dk_172 (dk_at dksX1_nearest_1 16 rfl rfl)
abbrev cX1_lambda_nearest_6 : ByteArray := prog_1_method_108_code
def yX1_lambda_nearest_6 : MethodName := ⟨RX1, "lambda$nearest$6", "(ILIntervalTree$Node;)V"⟩
def dkwX1_lambda_nearest_6_0 : List UInt8 := [42, 44, 27, 182, 1, 244, 177]
abbrev dktX1_lambda_nearest_6_0 : List UInt8 := dkwX1_lambda_nearest_6_0 ++ []
theorem dksX1_lambda_nearest_6_0 : cX1_lambda_nearest_6.data.toList.drop 0 = dktX1_lambda_nearest_6_0 := by decide +kernel
theorem dX1_lambda_nearest_6_0 : decode cX1_lambda_nearest_6 0 = .ok (.aload_n 0, 1) := dk_42 (dk_at dksX1_lambda_nearest_6_0 0 rfl rfl)
theorem dX1_lambda_nearest_6_1 : decode cX1_lambda_nearest_6 1 = .ok (.aload_n 2, 1) := dk_44 (dk_at dksX1_lambda_nearest_6_0 1 rfl rfl)
theorem dX1_lambda_nearest_6_2 : decode cX1_lambda_nearest_6 2 = .ok (.iload_n 1, 1) := dk_27 (dk_at dksX1_lambda_nearest_6_0 2 rfl rfl)
theorem dX1_lambda_nearest_6_3 : decode cX1_lambda_nearest_6 3 = .ok (.invokevirtual 500, 3) := dk_182 1 244 (dk_at dksX1_lambda_nearest_6_0 3 rfl rfl)
theorem dX1_lambda_nearest_6_6 : decode cX1_lambda_nearest_6 6 = .ok (.return_, 1) := dk_177 (dk_at dksX1_lambda_nearest_6_0 6 rfl rfl)
abbrev cX1_consider : ByteArray := prog_1_method_68_code
def yX1_consider : MethodName := ⟨RX1, "consider", "(LIntervalTree$Node;I)V"⟩
def dkwX1_consider_2 : List UInt8 := [29, 181, 1, 114, 177]
abbrev dktX1_consider_2 : List UInt8 := dkwX1_consider_2 ++ []
def dkwX1_consider_1 : List UInt8 := [154, 0, 28, 42, 180, 1, 111, 198, 0, 11, 29, 42, 180, 1, 114, 162, 0, 13, 42, 43, 181, 1, 111, 42]
abbrev dktX1_consider_1 : List UInt8 := dkwX1_consider_1 ++ dktX1_consider_2
def dkwX1_consider_0 : List UInt8 := [3, 43, 180, 0, 107, 28, 100, 28, 43, 180, 0, 110, 100, 184, 1, 25, 184, 1, 25, 62, 43, 180, 0, 129]
abbrev dktX1_consider_0 : List UInt8 := dkwX1_consider_0 ++ dktX1_consider_1
theorem dksX1_consider_0 : cX1_consider.data.toList.drop 0 = dktX1_consider_0 := by decide +kernel
theorem dksX1_consider_1 : cX1_consider.data.toList.drop 24 = dktX1_consider_1 := dk_seg dksX1_consider_0 24 rfl rfl
theorem dksX1_consider_2 : cX1_consider.data.toList.drop 48 = dktX1_consider_2 := dk_seg dksX1_consider_1 24 rfl rfl
theorem dX1_consider_0 : decode cX1_consider 0 = .ok (.iconst 0, 1) := dk_3 (dk_at dksX1_consider_0 0 rfl rfl)
theorem dX1_consider_1 : decode cX1_consider 1 = .ok (.aload_n 1, 1) := dk_43 (dk_at dksX1_consider_0 1 rfl rfl)
theorem dX1_consider_2 : decode cX1_consider 2 = .ok (.getfield 107, 3) := dk_180 0 107 (dk_at dksX1_consider_0 2 rfl rfl)
theorem dX1_consider_5 : decode cX1_consider 5 = .ok (.iload_n 2, 1) := dk_28 (dk_at dksX1_consider_0 5 rfl rfl)
theorem dX1_consider_6 : decode cX1_consider 6 = .ok (.isub, 1) := dk_100 (dk_at dksX1_consider_0 6 rfl rfl)
theorem dX1_consider_7 : decode cX1_consider 7 = .ok (.iload_n 2, 1) := dk_28 (dk_at dksX1_consider_0 7 rfl rfl)
theorem dX1_consider_8 : decode cX1_consider 8 = .ok (.aload_n 1, 1) := dk_43 (dk_at dksX1_consider_0 8 rfl rfl)
theorem dX1_consider_9 : decode cX1_consider 9 = .ok (.getfield 110, 3) := dk_180 0 110 (dk_at dksX1_consider_0 9 rfl rfl)
theorem dX1_consider_12 : decode cX1_consider 12 = .ok (.isub, 1) := dk_100 (dk_at dksX1_consider_0 12 rfl rfl)
theorem dX1_consider_13 : decode cX1_consider 13 = .ok (.invokestatic 281, 3) := dk_184 1 25 (dk_at dksX1_consider_0 13 rfl rfl)
theorem dX1_consider_16 : decode cX1_consider 16 = .ok (.invokestatic 281, 3) := dk_184 1 25 (dk_at dksX1_consider_0 16 rfl rfl)
theorem dX1_consider_19 : decode cX1_consider 19 = .ok (.istore_n 3, 1) := dk_62 (dk_at dksX1_consider_0 19 rfl rfl)
theorem dX1_consider_20 : decode cX1_consider 20 = .ok (.aload_n 1, 1) := dk_43 (dk_at dksX1_consider_0 20 rfl rfl)
theorem dX1_consider_21 : decode cX1_consider 21 = .ok (.getfield 129, 3) := dk_180 0 129 (dk_at dksX1_consider_0 21 rfl rfl)
theorem dX1_consider_24 : decode cX1_consider 24 = .ok (.ifCond .ne 28, 3) := dk_154 0 28 (dk_at dksX1_consider_1 0 rfl rfl)
theorem dX1_consider_27 : decode cX1_consider 27 = .ok (.aload_n 0, 1) := dk_42 (dk_at dksX1_consider_1 3 rfl rfl)
theorem dX1_consider_28 : decode cX1_consider 28 = .ok (.getfield 367, 3) := dk_180 1 111 (dk_at dksX1_consider_1 4 rfl rfl)
theorem dX1_consider_31 : decode cX1_consider 31 = .ok (.ifnull 11, 3) := dk_198 0 11 (dk_at dksX1_consider_1 7 rfl rfl)
theorem dX1_consider_34 : decode cX1_consider 34 = .ok (.iload_n 3, 1) := dk_29 (dk_at dksX1_consider_1 10 rfl rfl)
theorem dX1_consider_35 : decode cX1_consider 35 = .ok (.aload_n 0, 1) := dk_42 (dk_at dksX1_consider_1 11 rfl rfl)
theorem dX1_consider_36 : decode cX1_consider 36 = .ok (.getfield 370, 3) := dk_180 1 114 (dk_at dksX1_consider_1 12 rfl rfl)
theorem dX1_consider_39 : decode cX1_consider 39 = .ok (.if_icmp .ge 13, 3) := dk_162 0 13 (dk_at dksX1_consider_1 15 rfl rfl)
theorem dX1_consider_42 : decode cX1_consider 42 = .ok (.aload_n 0, 1) := dk_42 (dk_at dksX1_consider_1 18 rfl rfl)
theorem dX1_consider_43 : decode cX1_consider 43 = .ok (.aload_n 1, 1) := dk_43 (dk_at dksX1_consider_1 19 rfl rfl)
theorem dX1_consider_44 : decode cX1_consider 44 = .ok (.putfield 367, 3) := dk_181 1 111 (dk_at dksX1_consider_1 20 rfl rfl)
theorem dX1_consider_47 : decode cX1_consider 47 = .ok (.aload_n 0, 1) := dk_42 (dk_at dksX1_consider_1 23 rfl rfl)
theorem dX1_consider_48 : decode cX1_consider 48 = .ok (.iload_n 3, 1) := dk_29 (dk_at dksX1_consider_2 0 rfl rfl)
theorem dX1_consider_49 : decode cX1_consider 49 = .ok (.putfield 370, 3) := dk_181 1 114 (dk_at dksX1_consider_2 1 rfl rfl)
theorem dX1_consider_52 : decode cX1_consider 52 = .ok (.return_, 1) := dk_177 (dk_at dksX1_consider_2 4 rfl rfl)
abbrev cX1_covered : ByteArray := prog_1_method_70_code
def yX1_covered : MethodName := ⟨RX1, "covered", "(II)I"⟩
def dkwX1_covered_4 : List UInt8 := [21, 7, 21, 6, 100, 4, 96, 96, 62, 21, 7, 4, 96, 54, 4, 132, 5, 1, 167, 255, 188, 29, 172]
abbrev dktX1_covered_4 : List UInt8 := dkwX1_covered_4 ++ []
def dkwX1_covered_3 : List UInt8 := [42, 180, 0, 58, 21, 5, 50, 180, 0, 110, 184, 1, 120, 54, 7, 21, 6, 21, 7, 163, 0, 19, 29]
abbrev dktX1_covered_3 : List UInt8 := dkwX1_covered_3 ++ dktX1_covered_4
def dkwX1_covered_2 : List UInt8 := [180, 1, 2, 162, 0, 65, 21, 4, 42, 180, 0, 58, 21, 5, 50, 180, 0, 107, 184, 1, 25, 54, 6, 28]
abbrev dktX1_covered_2 : List UInt8 := dkwX1_covered_2 ++ dktX1_covered_3
def dkwX1_covered_1 : List UInt8 := [4, 167, 0, 4, 3, 184, 0, 179, 42, 182, 1, 12, 3, 62, 27, 54, 4, 3, 54, 5, 21, 5, 42]
abbrev dktX1_covered_1 : List UInt8 := dkwX1_covered_1 ++ dktX1_covered_2
def dkwX1_covered_0 : List UInt8 := [27, 17, 248, 48, 17, 7, 208, 184, 0, 116, 153, 0, 18, 28, 27, 17, 7, 208, 184, 0, 116, 153, 0, 7]
abbrev dktX1_covered_0 : List UInt8 := dkwX1_covered_0 ++ dktX1_covered_1
theorem dksX1_covered_0 : cX1_covered.data.toList.drop 0 = dktX1_covered_0 := by decide +kernel
theorem dksX1_covered_1 : cX1_covered.data.toList.drop 24 = dktX1_covered_1 := dk_seg dksX1_covered_0 24 rfl rfl
theorem dksX1_covered_2 : cX1_covered.data.toList.drop 47 = dktX1_covered_2 := dk_seg dksX1_covered_1 23 rfl rfl
theorem dksX1_covered_3 : cX1_covered.data.toList.drop 71 = dktX1_covered_3 := dk_seg dksX1_covered_2 24 rfl rfl
theorem dksX1_covered_4 : cX1_covered.data.toList.drop 94 = dktX1_covered_4 := dk_seg dksX1_covered_3 23 rfl rfl
theorem dX1_covered_0 : decode cX1_covered 0 = .ok (.iload_n 1, 1) := dk_27 (dk_at dksX1_covered_0 0 rfl rfl)
theorem dX1_covered_1 : decode cX1_covered 1 = .ok (.sipush (-2000), 3) := dk_17 248 48 (dk_at dksX1_covered_0 1 rfl rfl)
theorem dX1_covered_4 : decode cX1_covered 4 = .ok (.sipush 2000, 3) := dk_17 7 208 (dk_at dksX1_covered_0 4 rfl rfl)
theorem dX1_covered_7 : decode cX1_covered 7 = .ok (.invokestatic 116, 3) := dk_184 0 116 (dk_at dksX1_covered_0 7 rfl rfl)
theorem dX1_covered_10 : decode cX1_covered 10 = .ok (.ifCond .eq 18, 3) := dk_153 0 18 (dk_at dksX1_covered_0 10 rfl rfl)
theorem dX1_covered_13 : decode cX1_covered 13 = .ok (.iload_n 2, 1) := dk_28 (dk_at dksX1_covered_0 13 rfl rfl)
theorem dX1_covered_14 : decode cX1_covered 14 = .ok (.iload_n 1, 1) := dk_27 (dk_at dksX1_covered_0 14 rfl rfl)
theorem dX1_covered_15 : decode cX1_covered 15 = .ok (.sipush 2000, 3) := dk_17 7 208 (dk_at dksX1_covered_0 15 rfl rfl)
theorem dX1_covered_18 : decode cX1_covered 18 = .ok (.invokestatic 116, 3) := dk_184 0 116 (dk_at dksX1_covered_0 18 rfl rfl)
theorem dX1_covered_21 : decode cX1_covered 21 = .ok (.ifCond .eq 7, 3) := dk_153 0 7 (dk_at dksX1_covered_0 21 rfl rfl)
theorem dX1_covered_24 : decode cX1_covered 24 = .ok (.iconst 1, 1) := dk_4 (dk_at dksX1_covered_1 0 rfl rfl)
theorem dX1_covered_25 : decode cX1_covered 25 = .ok (.goto 4, 3) := dk_167 0 4 (dk_at dksX1_covered_1 1 rfl rfl)
theorem dX1_covered_28 : decode cX1_covered 28 = .ok (.iconst 0, 1) := dk_3 (dk_at dksX1_covered_1 4 rfl rfl)
theorem dX1_covered_29 : decode cX1_covered 29 = .ok (.invokestatic 179, 3) := dk_184 0 179 (dk_at dksX1_covered_1 5 rfl rfl)
theorem dX1_covered_32 : decode cX1_covered 32 = .ok (.aload_n 0, 1) := dk_42 (dk_at dksX1_covered_1 8 rfl rfl)
theorem dX1_covered_33 : decode cX1_covered 33 = .ok (.invokevirtual 268, 3) := dk_182 1 12 (dk_at dksX1_covered_1 9 rfl rfl)
theorem dX1_covered_36 : decode cX1_covered 36 = .ok (.iconst 0, 1) := dk_3 (dk_at dksX1_covered_1 12 rfl rfl)
theorem dX1_covered_37 : decode cX1_covered 37 = .ok (.istore_n 3, 1) := dk_62 (dk_at dksX1_covered_1 13 rfl rfl)
theorem dX1_covered_38 : decode cX1_covered 38 = .ok (.iload_n 1, 1) := dk_27 (dk_at dksX1_covered_1 14 rfl rfl)
theorem dX1_covered_39 : decode cX1_covered 39 = .ok (.istore 4, 2) := dk_54 4 (dk_at dksX1_covered_1 15 rfl rfl)
theorem dX1_covered_41 : decode cX1_covered 41 = .ok (.iconst 0, 1) := dk_3 (dk_at dksX1_covered_1 17 rfl rfl)
theorem dX1_covered_42 : decode cX1_covered 42 = .ok (.istore 5, 2) := dk_54 5 (dk_at dksX1_covered_1 18 rfl rfl)
theorem dX1_covered_44 : decode cX1_covered 44 = .ok (.iload 5, 2) := dk_21 5 (dk_at dksX1_covered_1 20 rfl rfl)
theorem dX1_covered_46 : decode cX1_covered 46 = .ok (.aload_n 0, 1) := dk_42 (dk_at dksX1_covered_1 22 rfl rfl)
theorem dX1_covered_47 : decode cX1_covered 47 = .ok (.getfield 258, 3) := dk_180 1 2 (dk_at dksX1_covered_2 0 rfl rfl)
theorem dX1_covered_50 : decode cX1_covered 50 = .ok (.if_icmp .ge 65, 3) := dk_162 0 65 (dk_at dksX1_covered_2 3 rfl rfl)
theorem dX1_covered_53 : decode cX1_covered 53 = .ok (.iload 4, 2) := dk_21 4 (dk_at dksX1_covered_2 6 rfl rfl)
theorem dX1_covered_55 : decode cX1_covered 55 = .ok (.aload_n 0, 1) := dk_42 (dk_at dksX1_covered_2 8 rfl rfl)
theorem dX1_covered_56 : decode cX1_covered 56 = .ok (.getfield 58, 3) := dk_180 0 58 (dk_at dksX1_covered_2 9 rfl rfl)
theorem dX1_covered_59 : decode cX1_covered 59 = .ok (.iload 5, 2) := dk_21 5 (dk_at dksX1_covered_2 12 rfl rfl)
theorem dX1_covered_61 : decode cX1_covered 61 = .ok (.aaload, 1) := dk_50 (dk_at dksX1_covered_2 14 rfl rfl)
theorem dX1_covered_62 : decode cX1_covered 62 = .ok (.getfield 107, 3) := dk_180 0 107 (dk_at dksX1_covered_2 15 rfl rfl)
theorem dX1_covered_65 : decode cX1_covered 65 = .ok (.invokestatic 281, 3) := dk_184 1 25 (dk_at dksX1_covered_2 18 rfl rfl)
theorem dX1_covered_68 : decode cX1_covered 68 = .ok (.istore 6, 2) := dk_54 6 (dk_at dksX1_covered_2 21 rfl rfl)
theorem dX1_covered_70 : decode cX1_covered 70 = .ok (.iload_n 2, 1) := dk_28 (dk_at dksX1_covered_2 23 rfl rfl)
theorem dX1_covered_71 : decode cX1_covered 71 = .ok (.aload_n 0, 1) := dk_42 (dk_at dksX1_covered_3 0 rfl rfl)
theorem dX1_covered_72 : decode cX1_covered 72 = .ok (.getfield 58, 3) := dk_180 0 58 (dk_at dksX1_covered_3 1 rfl rfl)
theorem dX1_covered_75 : decode cX1_covered 75 = .ok (.iload 5, 2) := dk_21 5 (dk_at dksX1_covered_3 4 rfl rfl)
theorem dX1_covered_77 : decode cX1_covered 77 = .ok (.aaload, 1) := dk_50 (dk_at dksX1_covered_3 6 rfl rfl)
theorem dX1_covered_78 : decode cX1_covered 78 = .ok (.getfield 110, 3) := dk_180 0 110 (dk_at dksX1_covered_3 7 rfl rfl)
theorem dX1_covered_81 : decode cX1_covered 81 = .ok (.invokestatic 376, 3) := dk_184 1 120 (dk_at dksX1_covered_3 10 rfl rfl)
theorem dX1_covered_84 : decode cX1_covered 84 = .ok (.istore 7, 2) := dk_54 7 (dk_at dksX1_covered_3 13 rfl rfl)
theorem dX1_covered_86 : decode cX1_covered 86 = .ok (.iload 6, 2) := dk_21 6 (dk_at dksX1_covered_3 15 rfl rfl)
theorem dX1_covered_88 : decode cX1_covered 88 = .ok (.iload 7, 2) := dk_21 7 (dk_at dksX1_covered_3 17 rfl rfl)
theorem dX1_covered_90 : decode cX1_covered 90 = .ok (.if_icmp .gt 19, 3) := dk_163 0 19 (dk_at dksX1_covered_3 19 rfl rfl)
theorem dX1_covered_93 : decode cX1_covered 93 = .ok (.iload_n 3, 1) := dk_29 (dk_at dksX1_covered_3 22 rfl rfl)
theorem dX1_covered_94 : decode cX1_covered 94 = .ok (.iload 7, 2) := dk_21 7 (dk_at dksX1_covered_4 0 rfl rfl)
theorem dX1_covered_96 : decode cX1_covered 96 = .ok (.iload 6, 2) := dk_21 6 (dk_at dksX1_covered_4 2 rfl rfl)
theorem dX1_covered_98 : decode cX1_covered 98 = .ok (.isub, 1) := dk_100 (dk_at dksX1_covered_4 4 rfl rfl)
theorem dX1_covered_99 : decode cX1_covered 99 = .ok (.iconst 1, 1) := dk_4 (dk_at dksX1_covered_4 5 rfl rfl)
theorem dX1_covered_100 : decode cX1_covered 100 = .ok (.iadd, 1) := dk_96 (dk_at dksX1_covered_4 6 rfl rfl)
theorem dX1_covered_101 : decode cX1_covered 101 = .ok (.iadd, 1) := dk_96 (dk_at dksX1_covered_4 7 rfl rfl)
theorem dX1_covered_102 : decode cX1_covered 102 = .ok (.istore_n 3, 1) := dk_62 (dk_at dksX1_covered_4 8 rfl rfl)
theorem dX1_covered_103 : decode cX1_covered 103 = .ok (.iload 7, 2) := dk_21 7 (dk_at dksX1_covered_4 9 rfl rfl)
theorem dX1_covered_105 : decode cX1_covered 105 = .ok (.iconst 1, 1) := dk_4 (dk_at dksX1_covered_4 11 rfl rfl)
theorem dX1_covered_106 : decode cX1_covered 106 = .ok (.iadd, 1) := dk_96 (dk_at dksX1_covered_4 12 rfl rfl)
theorem dX1_covered_107 : decode cX1_covered 107 = .ok (.istore 4, 2) := dk_54 4 (dk_at dksX1_covered_4 13 rfl rfl)
theorem dX1_covered_109 : decode cX1_covered 109 = .ok (.iinc 5 1, 3) := dk_132 5 1 (dk_at dksX1_covered_4 15 rfl rfl)
theorem dX1_covered_112 : decode cX1_covered 112 = .ok (.goto (-68), 3) := dk_167 255 188 (dk_at dksX1_covered_4 18 rfl rfl)
theorem dX1_covered_115 : decode cX1_covered 115 = .ok (.iload_n 3, 1) := dk_29 (dk_at dksX1_covered_4 21 rfl rfl)
theorem dX1_covered_116 : decode cX1_covered 116 = .ok (.ireturn, 1) := dk_172 (dk_at dksX1_covered_4 22 rfl rfl)
abbrev cX1_deepestPoint : ByteArray := prog_1_method_71_code
def yX1_deepestPoint : MethodName := ⟨RX1, "deepestPoint", "()I"⟩
def dkwX1_deepestPoint_3 : List UInt8 := [50, 180, 0, 107, 60, 21, 4, 61, 132, 3, 1, 167, 255, 211, 27, 172]
abbrev dktX1_deepestPoint_3 : List UInt8 := dkwX1_deepestPoint_3 ++ []
def dkwX1_deepestPoint_2 : List UInt8 := [180, 0, 58, 29, 50, 180, 0, 107, 182, 1, 125, 54, 4, 21, 4, 28, 164, 0, 16, 42, 180, 0, 58, 29]
abbrev dktX1_deepestPoint_2 : List UInt8 := dkwX1_deepestPoint_2 ++ dktX1_deepestPoint_3
def dkwX1_deepestPoint_1 : List UInt8 := [180, 0, 58, 3, 50, 180, 0, 107, 60, 3, 61, 3, 62, 29, 42, 180, 1, 2, 162, 0, 43, 42, 42]
abbrev dktX1_deepestPoint_1 : List UInt8 := dkwX1_deepestPoint_1 ++ dktX1_deepestPoint_2
def dkwX1_deepestPoint_0 : List UInt8 := [42, 182, 1, 103, 154, 0, 14, 187, 0, 120, 89, 19, 1, 123, 183, 0, 124, 191, 42, 182, 1, 12, 42]
abbrev dktX1_deepestPoint_0 : List UInt8 := dkwX1_deepestPoint_0 ++ dktX1_deepestPoint_1
theorem dksX1_deepestPoint_0 : cX1_deepestPoint.data.toList.drop 0 = dktX1_deepestPoint_0 := by decide +kernel
theorem dksX1_deepestPoint_1 : cX1_deepestPoint.data.toList.drop 23 = dktX1_deepestPoint_1 := dk_seg dksX1_deepestPoint_0 23 rfl rfl
theorem dksX1_deepestPoint_2 : cX1_deepestPoint.data.toList.drop 46 = dktX1_deepestPoint_2 := dk_seg dksX1_deepestPoint_1 23 rfl rfl
theorem dksX1_deepestPoint_3 : cX1_deepestPoint.data.toList.drop 70 = dktX1_deepestPoint_3 := dk_seg dksX1_deepestPoint_2 24 rfl rfl
theorem dX1_deepestPoint_0 : decode cX1_deepestPoint 0 = .ok (.aload_n 0, 1) := dk_42 (dk_at dksX1_deepestPoint_0 0 rfl rfl)
theorem dX1_deepestPoint_1 : decode cX1_deepestPoint 1 = .ok (.invokevirtual 359, 3) := dk_182 1 103 (dk_at dksX1_deepestPoint_0 1 rfl rfl)
theorem dX1_deepestPoint_4 : decode cX1_deepestPoint 4 = .ok (.ifCond .ne 14, 3) := dk_154 0 14 (dk_at dksX1_deepestPoint_0 4 rfl rfl)
theorem dX1_deepestPoint_7 : decode cX1_deepestPoint 7 = .ok (.new 120, 3) := dk_187 0 120 (dk_at dksX1_deepestPoint_0 7 rfl rfl)
theorem dX1_deepestPoint_10 : decode cX1_deepestPoint 10 = .ok (.dup, 1) := dk_89 (dk_at dksX1_deepestPoint_0 10 rfl rfl)
theorem dX1_deepestPoint_11 : decode cX1_deepestPoint 11 = .ok (.ldc_w 379, 3) := dk_19 1 123 (dk_at dksX1_deepestPoint_0 11 rfl rfl)
theorem dX1_deepestPoint_14 : decode cX1_deepestPoint 14 = .ok (.invokespecial 124, 3) := dk_183 0 124 (dk_at dksX1_deepestPoint_0 14 rfl rfl)
theorem dX1_deepestPoint_17 : decode cX1_deepestPoint 17 = .ok (.athrow, 1) := dk_191 (dk_at dksX1_deepestPoint_0 17 rfl rfl)
theorem dX1_deepestPoint_18 : decode cX1_deepestPoint 18 = .ok (.aload_n 0, 1) := dk_42 (dk_at dksX1_deepestPoint_0 18 rfl rfl)
theorem dX1_deepestPoint_19 : decode cX1_deepestPoint 19 = .ok (.invokevirtual 268, 3) := dk_182 1 12 (dk_at dksX1_deepestPoint_0 19 rfl rfl)
theorem dX1_deepestPoint_22 : decode cX1_deepestPoint 22 = .ok (.aload_n 0, 1) := dk_42 (dk_at dksX1_deepestPoint_0 22 rfl rfl)
theorem dX1_deepestPoint_23 : decode cX1_deepestPoint 23 = .ok (.getfield 58, 3) := dk_180 0 58 (dk_at dksX1_deepestPoint_1 0 rfl rfl)
theorem dX1_deepestPoint_26 : decode cX1_deepestPoint 26 = .ok (.iconst 0, 1) := dk_3 (dk_at dksX1_deepestPoint_1 3 rfl rfl)
theorem dX1_deepestPoint_27 : decode cX1_deepestPoint 27 = .ok (.aaload, 1) := dk_50 (dk_at dksX1_deepestPoint_1 4 rfl rfl)
theorem dX1_deepestPoint_28 : decode cX1_deepestPoint 28 = .ok (.getfield 107, 3) := dk_180 0 107 (dk_at dksX1_deepestPoint_1 5 rfl rfl)
theorem dX1_deepestPoint_31 : decode cX1_deepestPoint 31 = .ok (.istore_n 1, 1) := dk_60 (dk_at dksX1_deepestPoint_1 8 rfl rfl)
theorem dX1_deepestPoint_32 : decode cX1_deepestPoint 32 = .ok (.iconst 0, 1) := dk_3 (dk_at dksX1_deepestPoint_1 9 rfl rfl)
theorem dX1_deepestPoint_33 : decode cX1_deepestPoint 33 = .ok (.istore_n 2, 1) := dk_61 (dk_at dksX1_deepestPoint_1 10 rfl rfl)
theorem dX1_deepestPoint_34 : decode cX1_deepestPoint 34 = .ok (.iconst 0, 1) := dk_3 (dk_at dksX1_deepestPoint_1 11 rfl rfl)
theorem dX1_deepestPoint_35 : decode cX1_deepestPoint 35 = .ok (.istore_n 3, 1) := dk_62 (dk_at dksX1_deepestPoint_1 12 rfl rfl)
theorem dX1_deepestPoint_36 : decode cX1_deepestPoint 36 = .ok (.iload_n 3, 1) := dk_29 (dk_at dksX1_deepestPoint_1 13 rfl rfl)
theorem dX1_deepestPoint_37 : decode cX1_deepestPoint 37 = .ok (.aload_n 0, 1) := dk_42 (dk_at dksX1_deepestPoint_1 14 rfl rfl)
theorem dX1_deepestPoint_38 : decode cX1_deepestPoint 38 = .ok (.getfield 258, 3) := dk_180 1 2 (dk_at dksX1_deepestPoint_1 15 rfl rfl)
theorem dX1_deepestPoint_41 : decode cX1_deepestPoint 41 = .ok (.if_icmp .ge 43, 3) := dk_162 0 43 (dk_at dksX1_deepestPoint_1 18 rfl rfl)
theorem dX1_deepestPoint_44 : decode cX1_deepestPoint 44 = .ok (.aload_n 0, 1) := dk_42 (dk_at dksX1_deepestPoint_1 21 rfl rfl)
theorem dX1_deepestPoint_45 : decode cX1_deepestPoint 45 = .ok (.aload_n 0, 1) := dk_42 (dk_at dksX1_deepestPoint_1 22 rfl rfl)
theorem dX1_deepestPoint_46 : decode cX1_deepestPoint 46 = .ok (.getfield 58, 3) := dk_180 0 58 (dk_at dksX1_deepestPoint_2 0 rfl rfl)
theorem dX1_deepestPoint_49 : decode cX1_deepestPoint 49 = .ok (.iload_n 3, 1) := dk_29 (dk_at dksX1_deepestPoint_2 3 rfl rfl)
theorem dX1_deepestPoint_50 : decode cX1_deepestPoint 50 = .ok (.aaload, 1) := dk_50 (dk_at dksX1_deepestPoint_2 4 rfl rfl)
theorem dX1_deepestPoint_51 : decode cX1_deepestPoint 51 = .ok (.getfield 107, 3) := dk_180 0 107 (dk_at dksX1_deepestPoint_2 5 rfl rfl)
theorem dX1_deepestPoint_54 : decode cX1_deepestPoint 54 = .ok (.invokevirtual 381, 3) := dk_182 1 125 (dk_at dksX1_deepestPoint_2 8 rfl rfl)
theorem dX1_deepestPoint_57 : decode cX1_deepestPoint 57 = .ok (.istore 4, 2) := dk_54 4 (dk_at dksX1_deepestPoint_2 11 rfl rfl)
theorem dX1_deepestPoint_59 : decode cX1_deepestPoint 59 = .ok (.iload 4, 2) := dk_21 4 (dk_at dksX1_deepestPoint_2 13 rfl rfl)
theorem dX1_deepestPoint_61 : decode cX1_deepestPoint 61 = .ok (.iload_n 2, 1) := dk_28 (dk_at dksX1_deepestPoint_2 15 rfl rfl)
theorem dX1_deepestPoint_62 : decode cX1_deepestPoint 62 = .ok (.if_icmp .le 16, 3) := dk_164 0 16 (dk_at dksX1_deepestPoint_2 16 rfl rfl)
theorem dX1_deepestPoint_65 : decode cX1_deepestPoint 65 = .ok (.aload_n 0, 1) := dk_42 (dk_at dksX1_deepestPoint_2 19 rfl rfl)
theorem dX1_deepestPoint_66 : decode cX1_deepestPoint 66 = .ok (.getfield 58, 3) := dk_180 0 58 (dk_at dksX1_deepestPoint_2 20 rfl rfl)
theorem dX1_deepestPoint_69 : decode cX1_deepestPoint 69 = .ok (.iload_n 3, 1) := dk_29 (dk_at dksX1_deepestPoint_2 23 rfl rfl)
theorem dX1_deepestPoint_70 : decode cX1_deepestPoint 70 = .ok (.aaload, 1) := dk_50 (dk_at dksX1_deepestPoint_3 0 rfl rfl)
theorem dX1_deepestPoint_71 : decode cX1_deepestPoint 71 = .ok (.getfield 107, 3) := dk_180 0 107 (dk_at dksX1_deepestPoint_3 1 rfl rfl)
theorem dX1_deepestPoint_74 : decode cX1_deepestPoint 74 = .ok (.istore_n 1, 1) := dk_60 (dk_at dksX1_deepestPoint_3 4 rfl rfl)
theorem dX1_deepestPoint_75 : decode cX1_deepestPoint 75 = .ok (.iload 4, 2) := dk_21 4 (dk_at dksX1_deepestPoint_3 5 rfl rfl)
theorem dX1_deepestPoint_77 : decode cX1_deepestPoint 77 = .ok (.istore_n 2, 1) := dk_61 (dk_at dksX1_deepestPoint_3 7 rfl rfl)
theorem dX1_deepestPoint_78 : decode cX1_deepestPoint 78 = .ok (.iinc 3 1, 3) := dk_132 3 1 (dk_at dksX1_deepestPoint_3 8 rfl rfl)
theorem dX1_deepestPoint_81 : decode cX1_deepestPoint 81 = .ok (.goto (-45), 3) := dk_167 255 211 (dk_at dksX1_deepestPoint_3 11 rfl rfl)
theorem dX1_deepestPoint_84 : decode cX1_deepestPoint 84 = .ok (.iload_n 1, 1) := dk_27 (dk_at dksX1_deepestPoint_3 14 rfl rfl)
theorem dX1_deepestPoint_85 : decode cX1_deepestPoint 85 = .ok (.ireturn, 1) := dk_172 (dk_at dksX1_deepestPoint_3 15 rfl rfl)
abbrev cX1_scheduled : ByteArray := prog_1_method_75_code
def yX1_scheduled : MethodName := ⟨RX1, "scheduled", "(I)I"⟩
def dkwX1_scheduled_3 : List UInt8 := [187, 1, 106, 89, 19, 1, 132, 183, 1, 110, 191]
abbrev dktX1_scheduled_3 : List UInt8 := dkwX1_scheduled_3 ++ []
def dkwX1_scheduled_2 : List UInt8 := [180, 0, 58, 29, 50, 180, 0, 231, 172, 132, 2, 1, 42, 180, 0, 65, 29, 46, 62, 167, 255, 200]
abbrev dktX1_scheduled_2 : List UInt8 := dkwX1_scheduled_2 ++ dktX1_scheduled_3
def dkwX1_scheduled_1 : List UInt8 := [180, 0, 61, 29, 4, 96, 46, 160, 0, 9, 132, 3, 1, 167, 255, 228, 28, 27, 160, 0, 13, 42]
abbrev dktX1_scheduled_1 : List UInt8 := dkwX1_scheduled_1 ++ dktX1_scheduled_2
def dkwX1_scheduled_0 : List UInt8 := [42, 182, 1, 129, 3, 61, 3, 62, 29, 42, 180, 1, 2, 162, 0, 54, 42, 180, 0, 61, 29, 46, 42]
abbrev dktX1_scheduled_0 : List UInt8 := dkwX1_scheduled_0 ++ dktX1_scheduled_1
theorem dksX1_scheduled_0 : cX1_scheduled.data.toList.drop 0 = dktX1_scheduled_0 := by decide +kernel
theorem dksX1_scheduled_1 : cX1_scheduled.data.toList.drop 23 = dktX1_scheduled_1 := dk_seg dksX1_scheduled_0 23 rfl rfl
theorem dksX1_scheduled_2 : cX1_scheduled.data.toList.drop 45 = dktX1_scheduled_2 := dk_seg dksX1_scheduled_1 22 rfl rfl
theorem dksX1_scheduled_3 : cX1_scheduled.data.toList.drop 67 = dktX1_scheduled_3 := dk_seg dksX1_scheduled_2 22 rfl rfl
theorem dX1_scheduled_0 : decode cX1_scheduled 0 = .ok (.aload_n 0, 1) := dk_42 (dk_at dksX1_scheduled_0 0 rfl rfl)
theorem dX1_scheduled_1 : decode cX1_scheduled 1 = .ok (.invokevirtual 385, 3) := dk_182 1 129 (dk_at dksX1_scheduled_0 1 rfl rfl)
theorem dX1_scheduled_4 : decode cX1_scheduled 4 = .ok (.iconst 0, 1) := dk_3 (dk_at dksX1_scheduled_0 4 rfl rfl)
theorem dX1_scheduled_5 : decode cX1_scheduled 5 = .ok (.istore_n 2, 1) := dk_61 (dk_at dksX1_scheduled_0 5 rfl rfl)
theorem dX1_scheduled_6 : decode cX1_scheduled 6 = .ok (.iconst 0, 1) := dk_3 (dk_at dksX1_scheduled_0 6 rfl rfl)
theorem dX1_scheduled_7 : decode cX1_scheduled 7 = .ok (.istore_n 3, 1) := dk_62 (dk_at dksX1_scheduled_0 7 rfl rfl)
theorem dX1_scheduled_8 : decode cX1_scheduled 8 = .ok (.iload_n 3, 1) := dk_29 (dk_at dksX1_scheduled_0 8 rfl rfl)
theorem dX1_scheduled_9 : decode cX1_scheduled 9 = .ok (.aload_n 0, 1) := dk_42 (dk_at dksX1_scheduled_0 9 rfl rfl)
theorem dX1_scheduled_10 : decode cX1_scheduled 10 = .ok (.getfield 258, 3) := dk_180 1 2 (dk_at dksX1_scheduled_0 10 rfl rfl)
theorem dX1_scheduled_13 : decode cX1_scheduled 13 = .ok (.if_icmp .ge 54, 3) := dk_162 0 54 (dk_at dksX1_scheduled_0 13 rfl rfl)
theorem dX1_scheduled_16 : decode cX1_scheduled 16 = .ok (.aload_n 0, 1) := dk_42 (dk_at dksX1_scheduled_0 16 rfl rfl)
theorem dX1_scheduled_17 : decode cX1_scheduled 17 = .ok (.getfield 61, 3) := dk_180 0 61 (dk_at dksX1_scheduled_0 17 rfl rfl)
theorem dX1_scheduled_20 : decode cX1_scheduled 20 = .ok (.iload_n 3, 1) := dk_29 (dk_at dksX1_scheduled_0 20 rfl rfl)
theorem dX1_scheduled_21 : decode cX1_scheduled 21 = .ok (.iaload, 1) := dk_46 (dk_at dksX1_scheduled_0 21 rfl rfl)
theorem dX1_scheduled_22 : decode cX1_scheduled 22 = .ok (.aload_n 0, 1) := dk_42 (dk_at dksX1_scheduled_0 22 rfl rfl)
theorem dX1_scheduled_23 : decode cX1_scheduled 23 = .ok (.getfield 61, 3) := dk_180 0 61 (dk_at dksX1_scheduled_1 0 rfl rfl)
theorem dX1_scheduled_26 : decode cX1_scheduled 26 = .ok (.iload_n 3, 1) := dk_29 (dk_at dksX1_scheduled_1 3 rfl rfl)
theorem dX1_scheduled_27 : decode cX1_scheduled 27 = .ok (.iconst 1, 1) := dk_4 (dk_at dksX1_scheduled_1 4 rfl rfl)
theorem dX1_scheduled_28 : decode cX1_scheduled 28 = .ok (.iadd, 1) := dk_96 (dk_at dksX1_scheduled_1 5 rfl rfl)
theorem dX1_scheduled_29 : decode cX1_scheduled 29 = .ok (.iaload, 1) := dk_46 (dk_at dksX1_scheduled_1 6 rfl rfl)
theorem dX1_scheduled_30 : decode cX1_scheduled 30 = .ok (.if_icmp .ne 9, 3) := dk_160 0 9 (dk_at dksX1_scheduled_1 7 rfl rfl)
theorem dX1_scheduled_33 : decode cX1_scheduled 33 = .ok (.iinc 3 1, 3) := dk_132 3 1 (dk_at dksX1_scheduled_1 10 rfl rfl)
theorem dX1_scheduled_36 : decode cX1_scheduled 36 = .ok (.goto (-28), 3) := dk_167 255 228 (dk_at dksX1_scheduled_1 13 rfl rfl)
theorem dX1_scheduled_39 : decode cX1_scheduled 39 = .ok (.iload_n 2, 1) := dk_28 (dk_at dksX1_scheduled_1 16 rfl rfl)
theorem dX1_scheduled_40 : decode cX1_scheduled 40 = .ok (.iload_n 1, 1) := dk_27 (dk_at dksX1_scheduled_1 17 rfl rfl)
theorem dX1_scheduled_41 : decode cX1_scheduled 41 = .ok (.if_icmp .ne 13, 3) := dk_160 0 13 (dk_at dksX1_scheduled_1 18 rfl rfl)
theorem dX1_scheduled_44 : decode cX1_scheduled 44 = .ok (.aload_n 0, 1) := dk_42 (dk_at dksX1_scheduled_1 21 rfl rfl)
theorem dX1_scheduled_45 : decode cX1_scheduled 45 = .ok (.getfield 58, 3) := dk_180 0 58 (dk_at dksX1_scheduled_2 0 rfl rfl)
theorem dX1_scheduled_48 : decode cX1_scheduled 48 = .ok (.iload_n 3, 1) := dk_29 (dk_at dksX1_scheduled_2 3 rfl rfl)
theorem dX1_scheduled_49 : decode cX1_scheduled 49 = .ok (.aaload, 1) := dk_50 (dk_at dksX1_scheduled_2 4 rfl rfl)
theorem dX1_scheduled_50 : decode cX1_scheduled 50 = .ok (.getfield 231, 3) := dk_180 0 231 (dk_at dksX1_scheduled_2 5 rfl rfl)
theorem dX1_scheduled_53 : decode cX1_scheduled 53 = .ok (.ireturn, 1) := dk_172 (dk_at dksX1_scheduled_2 8 rfl rfl)
theorem dX1_scheduled_54 : decode cX1_scheduled 54 = .ok (.iinc 2 1, 3) := dk_132 2 1 (dk_at dksX1_scheduled_2 9 rfl rfl)
theorem dX1_scheduled_57 : decode cX1_scheduled 57 = .ok (.aload_n 0, 1) := dk_42 (dk_at dksX1_scheduled_2 12 rfl rfl)
theorem dX1_scheduled_58 : decode cX1_scheduled 58 = .ok (.getfield 65, 3) := dk_180 0 65 (dk_at dksX1_scheduled_2 13 rfl rfl)
theorem dX1_scheduled_61 : decode cX1_scheduled 61 = .ok (.iload_n 3, 1) := dk_29 (dk_at dksX1_scheduled_2 16 rfl rfl)
theorem dX1_scheduled_62 : decode cX1_scheduled 62 = .ok (.iaload, 1) := dk_46 (dk_at dksX1_scheduled_2 17 rfl rfl)
theorem dX1_scheduled_63 : decode cX1_scheduled 63 = .ok (.istore_n 3, 1) := dk_62 (dk_at dksX1_scheduled_2 18 rfl rfl)
theorem dX1_scheduled_64 : decode cX1_scheduled 64 = .ok (.goto (-56), 3) := dk_167 255 200 (dk_at dksX1_scheduled_2 19 rfl rfl)
theorem dX1_scheduled_67 : decode cX1_scheduled 67 = .ok (.new 362, 3) := dk_187 1 106 (dk_at dksX1_scheduled_3 0 rfl rfl)
theorem dX1_scheduled_70 : decode cX1_scheduled 70 = .ok (.dup, 1) := dk_89 (dk_at dksX1_scheduled_3 3 rfl rfl)
theorem dX1_scheduled_71 : decode cX1_scheduled 71 = .ok (.ldc_w 388, 3) := dk_19 1 132 (dk_at dksX1_scheduled_3 4 rfl rfl)
theorem dX1_scheduled_74 : decode cX1_scheduled 74 = .ok (.invokespecial 366, 3) := dk_183 1 110 (dk_at dksX1_scheduled_3 7 rfl rfl)
theorem dX1_scheduled_77 : decode cX1_scheduled 77 = .ok (.athrow, 1) := dk_191 (dk_at dksX1_scheduled_3 10 rfl rfl)
abbrev cX1_piercingPoint : ByteArray := prog_1_method_76_code
def yX1_piercingPoint : MethodName := ⟨RX1, "piercingPoint", "(I)I"⟩
def dkwX1_piercingPoint_5 : List UInt8 := [167, 255, 231, 167, 255, 146, 187, 1, 106, 89, 19, 1, 132, 183, 1, 110, 191]
abbrev dktX1_piercingPoint_5 : List UInt8 := dkwX1_piercingPoint_5 ++ []
def dkwX1_piercingPoint_4 : List UInt8 := [180, 1, 2, 162, 0, 23, 42, 180, 0, 58, 29, 50, 180, 0, 107, 21, 4, 163, 0, 9, 132, 3, 1]
abbrev dktX1_piercingPoint_4 : List UInt8 := dkwX1_piercingPoint_4 ++ dktX1_piercingPoint_5
def dkwX1_piercingPoint_3 : List UInt8 := [54, 4, 132, 5, 1, 167, 255, 212, 28, 27, 160, 0, 6, 21, 4, 172, 132, 2, 1, 3, 62, 29, 42]
abbrev dktX1_piercingPoint_3 : List UInt8 := dkwX1_piercingPoint_3 ++ dktX1_piercingPoint_4
def dkwX1_piercingPoint_2 : List UInt8 := [180, 0, 107, 21, 4, 163, 0, 26, 21, 4, 42, 180, 0, 58, 21, 5, 50, 180, 0, 110, 184, 1, 120]
abbrev dktX1_piercingPoint_2 : List UInt8 := dkwX1_piercingPoint_2 ++ dktX1_piercingPoint_3
def dkwX1_piercingPoint_1 : List UInt8 := [180, 0, 110, 54, 4, 29, 54, 5, 21, 5, 42, 180, 1, 2, 162, 0, 41, 42, 180, 0, 58, 21, 5, 50]
abbrev dktX1_piercingPoint_1 : List UInt8 := dkwX1_piercingPoint_1 ++ dktX1_piercingPoint_2
def dkwX1_piercingPoint_0 : List UInt8 := [42, 182, 1, 12, 3, 61, 3, 62, 29, 42, 180, 1, 2, 162, 0, 108, 42, 180, 0, 58, 29, 50]
abbrev dktX1_piercingPoint_0 : List UInt8 := dkwX1_piercingPoint_0 ++ dktX1_piercingPoint_1
theorem dksX1_piercingPoint_0 : cX1_piercingPoint.data.toList.drop 0 = dktX1_piercingPoint_0 := by decide +kernel
theorem dksX1_piercingPoint_1 : cX1_piercingPoint.data.toList.drop 22 = dktX1_piercingPoint_1 := dk_seg dksX1_piercingPoint_0 22 rfl rfl
theorem dksX1_piercingPoint_2 : cX1_piercingPoint.data.toList.drop 46 = dktX1_piercingPoint_2 := dk_seg dksX1_piercingPoint_1 24 rfl rfl
theorem dksX1_piercingPoint_3 : cX1_piercingPoint.data.toList.drop 69 = dktX1_piercingPoint_3 := dk_seg dksX1_piercingPoint_2 23 rfl rfl
theorem dksX1_piercingPoint_4 : cX1_piercingPoint.data.toList.drop 92 = dktX1_piercingPoint_4 := dk_seg dksX1_piercingPoint_3 23 rfl rfl
theorem dksX1_piercingPoint_5 : cX1_piercingPoint.data.toList.drop 115 = dktX1_piercingPoint_5 := dk_seg dksX1_piercingPoint_4 23 rfl rfl
theorem dX1_piercingPoint_0 : decode cX1_piercingPoint 0 = .ok (.aload_n 0, 1) := dk_42 (dk_at dksX1_piercingPoint_0 0 rfl rfl)
theorem dX1_piercingPoint_1 : decode cX1_piercingPoint 1 = .ok (.invokevirtual 268, 3) := dk_182 1 12 (dk_at dksX1_piercingPoint_0 1 rfl rfl)
theorem dX1_piercingPoint_4 : decode cX1_piercingPoint 4 = .ok (.iconst 0, 1) := dk_3 (dk_at dksX1_piercingPoint_0 4 rfl rfl)
theorem dX1_piercingPoint_5 : decode cX1_piercingPoint 5 = .ok (.istore_n 2, 1) := dk_61 (dk_at dksX1_piercingPoint_0 5 rfl rfl)
theorem dX1_piercingPoint_6 : decode cX1_piercingPoint 6 = .ok (.iconst 0, 1) := dk_3 (dk_at dksX1_piercingPoint_0 6 rfl rfl)
theorem dX1_piercingPoint_7 : decode cX1_piercingPoint 7 = .ok (.istore_n 3, 1) := dk_62 (dk_at dksX1_piercingPoint_0 7 rfl rfl)
theorem dX1_piercingPoint_8 : decode cX1_piercingPoint 8 = .ok (.iload_n 3, 1) := dk_29 (dk_at dksX1_piercingPoint_0 8 rfl rfl)
theorem dX1_piercingPoint_9 : decode cX1_piercingPoint 9 = .ok (.aload_n 0, 1) := dk_42 (dk_at dksX1_piercingPoint_0 9 rfl rfl)
theorem dX1_piercingPoint_10 : decode cX1_piercingPoint 10 = .ok (.getfield 258, 3) := dk_180 1 2 (dk_at dksX1_piercingPoint_0 10 rfl rfl)
theorem dX1_piercingPoint_13 : decode cX1_piercingPoint 13 = .ok (.if_icmp .ge 108, 3) := dk_162 0 108 (dk_at dksX1_piercingPoint_0 13 rfl rfl)
theorem dX1_piercingPoint_16 : decode cX1_piercingPoint 16 = .ok (.aload_n 0, 1) := dk_42 (dk_at dksX1_piercingPoint_0 16 rfl rfl)
theorem dX1_piercingPoint_17 : decode cX1_piercingPoint 17 = .ok (.getfield 58, 3) := dk_180 0 58 (dk_at dksX1_piercingPoint_0 17 rfl rfl)
theorem dX1_piercingPoint_20 : decode cX1_piercingPoint 20 = .ok (.iload_n 3, 1) := dk_29 (dk_at dksX1_piercingPoint_0 20 rfl rfl)
theorem dX1_piercingPoint_21 : decode cX1_piercingPoint 21 = .ok (.aaload, 1) := dk_50 (dk_at dksX1_piercingPoint_0 21 rfl rfl)
theorem dX1_piercingPoint_22 : decode cX1_piercingPoint 22 = .ok (.getfield 110, 3) := dk_180 0 110 (dk_at dksX1_piercingPoint_1 0 rfl rfl)
theorem dX1_piercingPoint_25 : decode cX1_piercingPoint 25 = .ok (.istore 4, 2) := dk_54 4 (dk_at dksX1_piercingPoint_1 3 rfl rfl)
theorem dX1_piercingPoint_27 : decode cX1_piercingPoint 27 = .ok (.iload_n 3, 1) := dk_29 (dk_at dksX1_piercingPoint_1 5 rfl rfl)
theorem dX1_piercingPoint_28 : decode cX1_piercingPoint 28 = .ok (.istore 5, 2) := dk_54 5 (dk_at dksX1_piercingPoint_1 6 rfl rfl)
theorem dX1_piercingPoint_30 : decode cX1_piercingPoint 30 = .ok (.iload 5, 2) := dk_21 5 (dk_at dksX1_piercingPoint_1 8 rfl rfl)
theorem dX1_piercingPoint_32 : decode cX1_piercingPoint 32 = .ok (.aload_n 0, 1) := dk_42 (dk_at dksX1_piercingPoint_1 10 rfl rfl)
theorem dX1_piercingPoint_33 : decode cX1_piercingPoint 33 = .ok (.getfield 258, 3) := dk_180 1 2 (dk_at dksX1_piercingPoint_1 11 rfl rfl)
theorem dX1_piercingPoint_36 : decode cX1_piercingPoint 36 = .ok (.if_icmp .ge 41, 3) := dk_162 0 41 (dk_at dksX1_piercingPoint_1 14 rfl rfl)
theorem dX1_piercingPoint_39 : decode cX1_piercingPoint 39 = .ok (.aload_n 0, 1) := dk_42 (dk_at dksX1_piercingPoint_1 17 rfl rfl)
theorem dX1_piercingPoint_40 : decode cX1_piercingPoint 40 = .ok (.getfield 58, 3) := dk_180 0 58 (dk_at dksX1_piercingPoint_1 18 rfl rfl)
theorem dX1_piercingPoint_43 : decode cX1_piercingPoint 43 = .ok (.iload 5, 2) := dk_21 5 (dk_at dksX1_piercingPoint_1 21 rfl rfl)
theorem dX1_piercingPoint_45 : decode cX1_piercingPoint 45 = .ok (.aaload, 1) := dk_50 (dk_at dksX1_piercingPoint_1 23 rfl rfl)
theorem dX1_piercingPoint_46 : decode cX1_piercingPoint 46 = .ok (.getfield 107, 3) := dk_180 0 107 (dk_at dksX1_piercingPoint_2 0 rfl rfl)
theorem dX1_piercingPoint_49 : decode cX1_piercingPoint 49 = .ok (.iload 4, 2) := dk_21 4 (dk_at dksX1_piercingPoint_2 3 rfl rfl)
theorem dX1_piercingPoint_51 : decode cX1_piercingPoint 51 = .ok (.if_icmp .gt 26, 3) := dk_163 0 26 (dk_at dksX1_piercingPoint_2 5 rfl rfl)
theorem dX1_piercingPoint_54 : decode cX1_piercingPoint 54 = .ok (.iload 4, 2) := dk_21 4 (dk_at dksX1_piercingPoint_2 8 rfl rfl)
theorem dX1_piercingPoint_56 : decode cX1_piercingPoint 56 = .ok (.aload_n 0, 1) := dk_42 (dk_at dksX1_piercingPoint_2 10 rfl rfl)
theorem dX1_piercingPoint_57 : decode cX1_piercingPoint 57 = .ok (.getfield 58, 3) := dk_180 0 58 (dk_at dksX1_piercingPoint_2 11 rfl rfl)
theorem dX1_piercingPoint_60 : decode cX1_piercingPoint 60 = .ok (.iload 5, 2) := dk_21 5 (dk_at dksX1_piercingPoint_2 14 rfl rfl)
theorem dX1_piercingPoint_62 : decode cX1_piercingPoint 62 = .ok (.aaload, 1) := dk_50 (dk_at dksX1_piercingPoint_2 16 rfl rfl)
theorem dX1_piercingPoint_63 : decode cX1_piercingPoint 63 = .ok (.getfield 110, 3) := dk_180 0 110 (dk_at dksX1_piercingPoint_2 17 rfl rfl)
theorem dX1_piercingPoint_66 : decode cX1_piercingPoint 66 = .ok (.invokestatic 376, 3) := dk_184 1 120 (dk_at dksX1_piercingPoint_2 20 rfl rfl)
theorem dX1_piercingPoint_69 : decode cX1_piercingPoint 69 = .ok (.istore 4, 2) := dk_54 4 (dk_at dksX1_piercingPoint_3 0 rfl rfl)
theorem dX1_piercingPoint_71 : decode cX1_piercingPoint 71 = .ok (.iinc 5 1, 3) := dk_132 5 1 (dk_at dksX1_piercingPoint_3 2 rfl rfl)
theorem dX1_piercingPoint_74 : decode cX1_piercingPoint 74 = .ok (.goto (-44), 3) := dk_167 255 212 (dk_at dksX1_piercingPoint_3 5 rfl rfl)
theorem dX1_piercingPoint_77 : decode cX1_piercingPoint 77 = .ok (.iload_n 2, 1) := dk_28 (dk_at dksX1_piercingPoint_3 8 rfl rfl)
theorem dX1_piercingPoint_78 : decode cX1_piercingPoint 78 = .ok (.iload_n 1, 1) := dk_27 (dk_at dksX1_piercingPoint_3 9 rfl rfl)
theorem dX1_piercingPoint_79 : decode cX1_piercingPoint 79 = .ok (.if_icmp .ne 6, 3) := dk_160 0 6 (dk_at dksX1_piercingPoint_3 10 rfl rfl)
theorem dX1_piercingPoint_82 : decode cX1_piercingPoint 82 = .ok (.iload 4, 2) := dk_21 4 (dk_at dksX1_piercingPoint_3 13 rfl rfl)
theorem dX1_piercingPoint_84 : decode cX1_piercingPoint 84 = .ok (.ireturn, 1) := dk_172 (dk_at dksX1_piercingPoint_3 15 rfl rfl)
theorem dX1_piercingPoint_85 : decode cX1_piercingPoint 85 = .ok (.iinc 2 1, 3) := dk_132 2 1 (dk_at dksX1_piercingPoint_3 16 rfl rfl)
theorem dX1_piercingPoint_88 : decode cX1_piercingPoint 88 = .ok (.iconst 0, 1) := dk_3 (dk_at dksX1_piercingPoint_3 19 rfl rfl)
theorem dX1_piercingPoint_89 : decode cX1_piercingPoint 89 = .ok (.istore_n 3, 1) := dk_62 (dk_at dksX1_piercingPoint_3 20 rfl rfl)
theorem dX1_piercingPoint_90 : decode cX1_piercingPoint 90 = .ok (.iload_n 3, 1) := dk_29 (dk_at dksX1_piercingPoint_3 21 rfl rfl)
theorem dX1_piercingPoint_91 : decode cX1_piercingPoint 91 = .ok (.aload_n 0, 1) := dk_42 (dk_at dksX1_piercingPoint_3 22 rfl rfl)
theorem dX1_piercingPoint_92 : decode cX1_piercingPoint 92 = .ok (.getfield 258, 3) := dk_180 1 2 (dk_at dksX1_piercingPoint_4 0 rfl rfl)
theorem dX1_piercingPoint_95 : decode cX1_piercingPoint 95 = .ok (.if_icmp .ge 23, 3) := dk_162 0 23 (dk_at dksX1_piercingPoint_4 3 rfl rfl)
theorem dX1_piercingPoint_98 : decode cX1_piercingPoint 98 = .ok (.aload_n 0, 1) := dk_42 (dk_at dksX1_piercingPoint_4 6 rfl rfl)
theorem dX1_piercingPoint_99 : decode cX1_piercingPoint 99 = .ok (.getfield 58, 3) := dk_180 0 58 (dk_at dksX1_piercingPoint_4 7 rfl rfl)
theorem dX1_piercingPoint_102 : decode cX1_piercingPoint 102 = .ok (.iload_n 3, 1) := dk_29 (dk_at dksX1_piercingPoint_4 10 rfl rfl)
theorem dX1_piercingPoint_103 : decode cX1_piercingPoint 103 = .ok (.aaload, 1) := dk_50 (dk_at dksX1_piercingPoint_4 11 rfl rfl)
theorem dX1_piercingPoint_104 : decode cX1_piercingPoint 104 = .ok (.getfield 107, 3) := dk_180 0 107 (dk_at dksX1_piercingPoint_4 12 rfl rfl)
theorem dX1_piercingPoint_107 : decode cX1_piercingPoint 107 = .ok (.iload 4, 2) := dk_21 4 (dk_at dksX1_piercingPoint_4 15 rfl rfl)
theorem dX1_piercingPoint_109 : decode cX1_piercingPoint 109 = .ok (.if_icmp .gt 9, 3) := dk_163 0 9 (dk_at dksX1_piercingPoint_4 17 rfl rfl)
theorem dX1_piercingPoint_112 : decode cX1_piercingPoint 112 = .ok (.iinc 3 1, 3) := dk_132 3 1 (dk_at dksX1_piercingPoint_4 20 rfl rfl)
theorem dX1_piercingPoint_115 : decode cX1_piercingPoint 115 = .ok (.goto (-25), 3) := dk_167 255 231 (dk_at dksX1_piercingPoint_5 0 rfl rfl)
theorem dX1_piercingPoint_118 : decode cX1_piercingPoint 118 = .ok (.goto (-110), 3) := dk_167 255 146 (dk_at dksX1_piercingPoint_5 3 rfl rfl)
theorem dX1_piercingPoint_121 : decode cX1_piercingPoint 121 = .ok (.new 362, 3) := dk_187 1 106 (dk_at dksX1_piercingPoint_5 6 rfl rfl)
theorem dX1_piercingPoint_124 : decode cX1_piercingPoint 124 = .ok (.dup, 1) := dk_89 (dk_at dksX1_piercingPoint_5 9 rfl rfl)
theorem dX1_piercingPoint_125 : decode cX1_piercingPoint 125 = .ok (.ldc_w 388, 3) := dk_19 1 132 (dk_at dksX1_piercingPoint_5 10 rfl rfl)
theorem dX1_piercingPoint_128 : decode cX1_piercingPoint 128 = .ok (.invokespecial 366, 3) := dk_183 1 110 (dk_at dksX1_piercingPoint_5 13 rfl rfl)
theorem dX1_piercingPoint_131 : decode cX1_piercingPoint 131 = .ok (.athrow, 1) := dk_191 (dk_at dksX1_piercingPoint_5 16 rfl rfl)
abbrev cX1_addRangeFilter : ByteArray := prog_1_method_85_code
def yX1_addRangeFilter : MethodName := ⟨RX1, "addRangeFilter", "(III)I"⟩
def dkwX1_addRangeFilter_2 : List UInt8 := [172]
abbrev dktX1_addRangeFilter_2 : List UInt8 := dkwX1_addRangeFilter_2 ++ []
def dkwX1_addRangeFilter_1 : List UInt8 := [182, 1, 147, 42, 180, 0, 26, 27, 50, 58, 4, 42, 25, 4, 28, 29, 186, 1, 150, 0, 0, 182, 1, 153]
abbrev dktX1_addRangeFilter_1 : List UInt8 := dkwX1_addRangeFilter_1 ++ dktX1_addRangeFilter_2
def dkwX1_addRangeFilter_0 : List UInt8 := [27, 3, 6, 184, 0, 116, 153, 0, 12, 28, 29, 163, 0, 7, 4, 167, 0, 4, 3, 184, 0, 179, 42]
abbrev dktX1_addRangeFilter_0 : List UInt8 := dkwX1_addRangeFilter_0 ++ dktX1_addRangeFilter_1
theorem dksX1_addRangeFilter_0 : cX1_addRangeFilter.data.toList.drop 0 = dktX1_addRangeFilter_0 := by decide +kernel
theorem dksX1_addRangeFilter_1 : cX1_addRangeFilter.data.toList.drop 23 = dktX1_addRangeFilter_1 := dk_seg dksX1_addRangeFilter_0 23 rfl rfl
theorem dksX1_addRangeFilter_2 : cX1_addRangeFilter.data.toList.drop 47 = dktX1_addRangeFilter_2 := dk_seg dksX1_addRangeFilter_1 24 rfl rfl
theorem dX1_addRangeFilter_0 : decode cX1_addRangeFilter 0 = .ok (.iload_n 1, 1) := dk_27 (dk_at dksX1_addRangeFilter_0 0 rfl rfl)
theorem dX1_addRangeFilter_1 : decode cX1_addRangeFilter 1 = .ok (.iconst 0, 1) := dk_3 (dk_at dksX1_addRangeFilter_0 1 rfl rfl)
theorem dX1_addRangeFilter_2 : decode cX1_addRangeFilter 2 = .ok (.iconst 3, 1) := dk_6 (dk_at dksX1_addRangeFilter_0 2 rfl rfl)
theorem dX1_addRangeFilter_3 : decode cX1_addRangeFilter 3 = .ok (.invokestatic 116, 3) := dk_184 0 116 (dk_at dksX1_addRangeFilter_0 3 rfl rfl)
theorem dX1_addRangeFilter_6 : decode cX1_addRangeFilter 6 = .ok (.ifCond .eq 12, 3) := dk_153 0 12 (dk_at dksX1_addRangeFilter_0 6 rfl rfl)
theorem dX1_addRangeFilter_9 : decode cX1_addRangeFilter 9 = .ok (.iload_n 2, 1) := dk_28 (dk_at dksX1_addRangeFilter_0 9 rfl rfl)
theorem dX1_addRangeFilter_10 : decode cX1_addRangeFilter 10 = .ok (.iload_n 3, 1) := dk_29 (dk_at dksX1_addRangeFilter_0 10 rfl rfl)
theorem dX1_addRangeFilter_11 : decode cX1_addRangeFilter 11 = .ok (.if_icmp .gt 7, 3) := dk_163 0 7 (dk_at dksX1_addRangeFilter_0 11 rfl rfl)
theorem dX1_addRangeFilter_14 : decode cX1_addRangeFilter 14 = .ok (.iconst 1, 1) := dk_4 (dk_at dksX1_addRangeFilter_0 14 rfl rfl)
theorem dX1_addRangeFilter_15 : decode cX1_addRangeFilter 15 = .ok (.goto 4, 3) := dk_167 0 4 (dk_at dksX1_addRangeFilter_0 15 rfl rfl)
theorem dX1_addRangeFilter_18 : decode cX1_addRangeFilter 18 = .ok (.iconst 0, 1) := dk_3 (dk_at dksX1_addRangeFilter_0 18 rfl rfl)
theorem dX1_addRangeFilter_19 : decode cX1_addRangeFilter 19 = .ok (.invokestatic 179, 3) := dk_184 0 179 (dk_at dksX1_addRangeFilter_0 19 rfl rfl)
theorem dX1_addRangeFilter_22 : decode cX1_addRangeFilter 22 = .ok (.aload_n 0, 1) := dk_42 (dk_at dksX1_addRangeFilter_0 22 rfl rfl)
theorem dX1_addRangeFilter_23 : decode cX1_addRangeFilter 23 = .ok (.invokevirtual 403, 3) := dk_182 1 147 (dk_at dksX1_addRangeFilter_1 0 rfl rfl)
theorem dX1_addRangeFilter_26 : decode cX1_addRangeFilter 26 = .ok (.aload_n 0, 1) := dk_42 (dk_at dksX1_addRangeFilter_1 3 rfl rfl)
theorem dX1_addRangeFilter_27 : decode cX1_addRangeFilter 27 = .ok (.getfield 26, 3) := dk_180 0 26 (dk_at dksX1_addRangeFilter_1 4 rfl rfl)
theorem dX1_addRangeFilter_30 : decode cX1_addRangeFilter 30 = .ok (.iload_n 1, 1) := dk_27 (dk_at dksX1_addRangeFilter_1 7 rfl rfl)
theorem dX1_addRangeFilter_31 : decode cX1_addRangeFilter 31 = .ok (.aaload, 1) := dk_50 (dk_at dksX1_addRangeFilter_1 8 rfl rfl)
theorem dX1_addRangeFilter_32 : decode cX1_addRangeFilter 32 = .ok (.astore 4, 2) := dk_58 4 (dk_at dksX1_addRangeFilter_1 9 rfl rfl)
theorem dX1_addRangeFilter_34 : decode cX1_addRangeFilter 34 = .ok (.aload_n 0, 1) := dk_42 (dk_at dksX1_addRangeFilter_1 11 rfl rfl)
theorem dX1_addRangeFilter_35 : decode cX1_addRangeFilter 35 = .ok (.aload 4, 2) := dk_25 4 (dk_at dksX1_addRangeFilter_1 12 rfl rfl)
theorem dX1_addRangeFilter_37 : decode cX1_addRangeFilter 37 = .ok (.iload_n 2, 1) := dk_28 (dk_at dksX1_addRangeFilter_1 14 rfl rfl)
theorem dX1_addRangeFilter_38 : decode cX1_addRangeFilter 38 = .ok (.iload_n 3, 1) := dk_29 (dk_at dksX1_addRangeFilter_1 15 rfl rfl)
theorem dX1_addRangeFilter_39 : decode cX1_addRangeFilter 39 = .ok (.invokedynamic 406, 5) := by decide +kernel
theorem dX1_addRangeFilter_44 : decode cX1_addRangeFilter 44 = .ok (.invokevirtual 409, 3) := dk_182 1 153 (dk_at dksX1_addRangeFilter_1 21 rfl rfl)
theorem dX1_addRangeFilter_47 : decode cX1_addRangeFilter 47 = .ok (.ireturn, 1) := dk_172 (dk_at dksX1_addRangeFilter_2 0 rfl rfl)
abbrev cX1_checkFilterSpace : ByteArray := prog_1_method_82_code
def yX1_checkFilterSpace : MethodName := ⟨RX1, "checkFilterSpace", "()V"⟩
def dkwX1_checkFilterSpace_0 : List UInt8 := [42, 180, 0, 53, 16, 8, 160, 0, 14, 187, 0, 216, 89, 19, 1, 145, 183, 0, 220, 191, 177]
abbrev dktX1_checkFilterSpace_0 : List UInt8 := dkwX1_checkFilterSpace_0 ++ []
theorem dksX1_checkFilterSpace_0 : cX1_checkFilterSpace.data.toList.drop 0 = dktX1_checkFilterSpace_0 := by decide +kernel
theorem dX1_checkFilterSpace_0 : decode cX1_checkFilterSpace 0 = .ok (.aload_n 0, 1) := dk_42 (dk_at dksX1_checkFilterSpace_0 0 rfl rfl)
theorem dX1_checkFilterSpace_1 : decode cX1_checkFilterSpace 1 = .ok (.getfield 53, 3) := dk_180 0 53 (dk_at dksX1_checkFilterSpace_0 1 rfl rfl)
theorem dX1_checkFilterSpace_4 : decode cX1_checkFilterSpace 4 = .ok (.bipush 8, 2) := dk_16 8 (dk_at dksX1_checkFilterSpace_0 4 rfl rfl)
theorem dX1_checkFilterSpace_6 : decode cX1_checkFilterSpace 6 = .ok (.if_icmp .ne 14, 3) := dk_160 0 14 (dk_at dksX1_checkFilterSpace_0 6 rfl rfl)
theorem dX1_checkFilterSpace_9 : decode cX1_checkFilterSpace 9 = .ok (.new 216, 3) := dk_187 0 216 (dk_at dksX1_checkFilterSpace_0 9 rfl rfl)
theorem dX1_checkFilterSpace_12 : decode cX1_checkFilterSpace 12 = .ok (.dup, 1) := dk_89 (dk_at dksX1_checkFilterSpace_0 12 rfl rfl)
theorem dX1_checkFilterSpace_13 : decode cX1_checkFilterSpace 13 = .ok (.ldc_w 401, 3) := dk_19 1 145 (dk_at dksX1_checkFilterSpace_0 13 rfl rfl)
theorem dX1_checkFilterSpace_16 : decode cX1_checkFilterSpace 16 = .ok (.invokespecial 220, 3) := dk_183 0 220 (dk_at dksX1_checkFilterSpace_0 16 rfl rfl)
theorem dX1_checkFilterSpace_19 : decode cX1_checkFilterSpace 19 = .ok (.athrow, 1) := dk_191 (dk_at dksX1_checkFilterSpace_0 19 rfl rfl)
theorem dX1_checkFilterSpace_20 : decode cX1_checkFilterSpace 20 = .ok (.return_, 1) := dk_177 (dk_at dksX1_checkFilterSpace_0 20 rfl rfl)
abbrev cX1_lambda_addRangeFilter_10 : ByteArray := prog_1_method_104_code
def yX1_lambda_addRangeFilter_10 : MethodName := ⟨RX1, "lambda$addRangeFilter$10", "(LIntervalTree$Property;IILIntervalTree$Node;)Z"⟩
def dkwX1_lambda_addRangeFilter_10_0 : List UInt8 := [42, 45, 185, 1, 242, 2, 0, 27, 28, 184, 0, 116, 172]
abbrev dktX1_lambda_addRangeFilter_10_0 : List UInt8 := dkwX1_lambda_addRangeFilter_10_0 ++ []
theorem dksX1_lambda_addRangeFilter_10_0 : cX1_lambda_addRangeFilter_10.data.toList.drop 0 = dktX1_lambda_addRangeFilter_10_0 := by decide +kernel
theorem dX1_lambda_addRangeFilter_10_0 : decode cX1_lambda_addRangeFilter_10 0 = .ok (.aload_n 0, 1) := dk_42 (dk_at dksX1_lambda_addRangeFilter_10_0 0 rfl rfl)
theorem dX1_lambda_addRangeFilter_10_1 : decode cX1_lambda_addRangeFilter_10 1 = .ok (.aload_n 3, 1) := dk_45 (dk_at dksX1_lambda_addRangeFilter_10_0 1 rfl rfl)
theorem dX1_lambda_addRangeFilter_10_2 : decode cX1_lambda_addRangeFilter_10 2 = .ok (.invokeinterface 498 2, 5) := by decide +kernel
theorem dX1_lambda_addRangeFilter_10_7 : decode cX1_lambda_addRangeFilter_10 7 = .ok (.iload_n 1, 1) := dk_27 (dk_at dksX1_lambda_addRangeFilter_10_0 7 rfl rfl)
theorem dX1_lambda_addRangeFilter_10_8 : decode cX1_lambda_addRangeFilter_10 8 = .ok (.iload_n 2, 1) := dk_28 (dk_at dksX1_lambda_addRangeFilter_10_0 8 rfl rfl)
theorem dX1_lambda_addRangeFilter_10_9 : decode cX1_lambda_addRangeFilter_10 9 = .ok (.invokestatic 116, 3) := dk_184 0 116 (dk_at dksX1_lambda_addRangeFilter_10_0 9 rfl rfl)
theorem dX1_lambda_addRangeFilter_10_12 : decode cX1_lambda_addRangeFilter_10 12 = .ok (.ireturn, 1) := dk_172 (dk_at dksX1_lambda_addRangeFilter_10_0 12 rfl rfl)
abbrev cX1_addFilter : ByteArray := prog_1_method_83_code
def yX1_addFilter : MethodName := ⟨RX1, "addFilter", "(LIntervalTree$Filter;)I"⟩
def dkwX1_addFilter_1 : List UInt8 := [4, 100, 172]
abbrev dktX1_addFilter_1 : List UInt8 := dkwX1_addFilter_1 ++ []
def dkwX1_addFilter_0 : List UInt8 := [42, 180, 0, 20, 42, 180, 0, 53, 43, 83, 42, 89, 180, 0, 53, 4, 96, 181, 0, 53, 42, 180, 0, 53]
abbrev dktX1_addFilter_0 : List UInt8 := dkwX1_addFilter_0 ++ dktX1_addFilter_1
theorem dksX1_addFilter_0 : cX1_addFilter.data.toList.drop 0 = dktX1_addFilter_0 := by decide +kernel
theorem dksX1_addFilter_1 : cX1_addFilter.data.toList.drop 24 = dktX1_addFilter_1 := dk_seg dksX1_addFilter_0 24 rfl rfl
theorem dX1_addFilter_0 : decode cX1_addFilter 0 = .ok (.aload_n 0, 1) := dk_42 (dk_at dksX1_addFilter_0 0 rfl rfl)
theorem dX1_addFilter_1 : decode cX1_addFilter 1 = .ok (.getfield 20, 3) := dk_180 0 20 (dk_at dksX1_addFilter_0 1 rfl rfl)
theorem dX1_addFilter_4 : decode cX1_addFilter 4 = .ok (.aload_n 0, 1) := dk_42 (dk_at dksX1_addFilter_0 4 rfl rfl)
theorem dX1_addFilter_5 : decode cX1_addFilter 5 = .ok (.getfield 53, 3) := dk_180 0 53 (dk_at dksX1_addFilter_0 5 rfl rfl)
theorem dX1_addFilter_8 : decode cX1_addFilter 8 = .ok (.aload_n 1, 1) := dk_43 (dk_at dksX1_addFilter_0 8 rfl rfl)
theorem dX1_addFilter_9 : decode cX1_addFilter 9 = .ok (.aastore, 1) := dk_83 (dk_at dksX1_addFilter_0 9 rfl rfl)
theorem dX1_addFilter_10 : decode cX1_addFilter 10 = .ok (.aload_n 0, 1) := dk_42 (dk_at dksX1_addFilter_0 10 rfl rfl)
theorem dX1_addFilter_11 : decode cX1_addFilter 11 = .ok (.dup, 1) := dk_89 (dk_at dksX1_addFilter_0 11 rfl rfl)
theorem dX1_addFilter_12 : decode cX1_addFilter 12 = .ok (.getfield 53, 3) := dk_180 0 53 (dk_at dksX1_addFilter_0 12 rfl rfl)
theorem dX1_addFilter_15 : decode cX1_addFilter 15 = .ok (.iconst 1, 1) := dk_4 (dk_at dksX1_addFilter_0 15 rfl rfl)
theorem dX1_addFilter_16 : decode cX1_addFilter 16 = .ok (.iadd, 1) := dk_96 (dk_at dksX1_addFilter_0 16 rfl rfl)
theorem dX1_addFilter_17 : decode cX1_addFilter 17 = .ok (.putfield 53, 3) := dk_181 0 53 (dk_at dksX1_addFilter_0 17 rfl rfl)
theorem dX1_addFilter_20 : decode cX1_addFilter 20 = .ok (.aload_n 0, 1) := dk_42 (dk_at dksX1_addFilter_0 20 rfl rfl)
theorem dX1_addFilter_21 : decode cX1_addFilter 21 = .ok (.getfield 53, 3) := dk_180 0 53 (dk_at dksX1_addFilter_0 21 rfl rfl)
theorem dX1_addFilter_24 : decode cX1_addFilter 24 = .ok (.iconst 1, 1) := dk_4 (dk_at dksX1_addFilter_1 0 rfl rfl)
theorem dX1_addFilter_25 : decode cX1_addFilter 25 = .ok (.isub, 1) := dk_100 (dk_at dksX1_addFilter_1 1 rfl rfl)
theorem dX1_addFilter_26 : decode cX1_addFilter 26 = .ok (.ireturn, 1) := dk_172 (dk_at dksX1_addFilter_1 2 rfl rfl)
abbrev cX1_addHeavierFilter : ByteArray := prog_1_method_86_code
def yX1_addHeavierFilter : MethodName := ⟨RX1, "addHeavierFilter", "(I)I"⟩
def dkwX1_addHeavierFilter_1 : List UInt8 := [182, 1, 153, 172]
abbrev dktX1_addHeavierFilter_1 : List UInt8 := dkwX1_addHeavierFilter_1 ++ []
def dkwX1_addHeavierFilter_0 : List UInt8 := [42, 42, 27, 182, 0, 125, 182, 1, 31, 61, 42, 182, 1, 147, 42, 42, 28, 186, 1, 157, 0, 0]
abbrev dktX1_addHeavierFilter_0 : List UInt8 := dkwX1_addHeavierFilter_0 ++ dktX1_addHeavierFilter_1
theorem dksX1_addHeavierFilter_0 : cX1_addHeavierFilter.data.toList.drop 0 = dktX1_addHeavierFilter_0 := by decide +kernel
theorem dksX1_addHeavierFilter_1 : cX1_addHeavierFilter.data.toList.drop 22 = dktX1_addHeavierFilter_1 := dk_seg dksX1_addHeavierFilter_0 22 rfl rfl
theorem dX1_addHeavierFilter_0 : decode cX1_addHeavierFilter 0 = .ok (.aload_n 0, 1) := dk_42 (dk_at dksX1_addHeavierFilter_0 0 rfl rfl)
theorem dX1_addHeavierFilter_1 : decode cX1_addHeavierFilter 1 = .ok (.aload_n 0, 1) := dk_42 (dk_at dksX1_addHeavierFilter_0 1 rfl rfl)
theorem dX1_addHeavierFilter_2 : decode cX1_addHeavierFilter 2 = .ok (.iload_n 1, 1) := dk_27 (dk_at dksX1_addHeavierFilter_0 2 rfl rfl)
theorem dX1_addHeavierFilter_3 : decode cX1_addHeavierFilter 3 = .ok (.invokevirtual 125, 3) := dk_182 0 125 (dk_at dksX1_addHeavierFilter_0 3 rfl rfl)
theorem dX1_addHeavierFilter_6 : decode cX1_addHeavierFilter 6 = .ok (.invokevirtual 287, 3) := dk_182 1 31 (dk_at dksX1_addHeavierFilter_0 6 rfl rfl)
theorem dX1_addHeavierFilter_9 : decode cX1_addHeavierFilter 9 = .ok (.istore_n 2, 1) := dk_61 (dk_at dksX1_addHeavierFilter_0 9 rfl rfl)
theorem dX1_addHeavierFilter_10 : decode cX1_addHeavierFilter 10 = .ok (.aload_n 0, 1) := dk_42 (dk_at dksX1_addHeavierFilter_0 10 rfl rfl)
theorem dX1_addHeavierFilter_11 : decode cX1_addHeavierFilter 11 = .ok (.invokevirtual 403, 3) := dk_182 1 147 (dk_at dksX1_addHeavierFilter_0 11 rfl rfl)
theorem dX1_addHeavierFilter_14 : decode cX1_addHeavierFilter 14 = .ok (.aload_n 0, 1) := dk_42 (dk_at dksX1_addHeavierFilter_0 14 rfl rfl)
theorem dX1_addHeavierFilter_15 : decode cX1_addHeavierFilter 15 = .ok (.aload_n 0, 1) := dk_42 (dk_at dksX1_addHeavierFilter_0 15 rfl rfl)
theorem dX1_addHeavierFilter_16 : decode cX1_addHeavierFilter 16 = .ok (.iload_n 2, 1) := dk_28 (dk_at dksX1_addHeavierFilter_0 16 rfl rfl)
theorem dX1_addHeavierFilter_17 : decode cX1_addHeavierFilter 17 = .ok (.invokedynamic 413, 5) := by decide +kernel
theorem dX1_addHeavierFilter_22 : decode cX1_addHeavierFilter 22 = .ok (.invokevirtual 409, 3) := dk_182 1 153 (dk_at dksX1_addHeavierFilter_1 0 rfl rfl)
theorem dX1_addHeavierFilter_25 : decode cX1_addHeavierFilter 25 = .ok (.ireturn, 1) := dk_172 (dk_at dksX1_addHeavierFilter_1 3 rfl rfl)
abbrev cX1_lambda_addHeavierFilter_11 : ByteArray := prog_1_method_103_code
def yX1_lambda_addHeavierFilter_11 : MethodName := ⟨RX1, "lambda$addHeavierFilter$11", "(ILIntervalTree$Node;)Z"⟩
def dkwX1_lambda_addHeavierFilter_11_0 : List UInt8 := [42, 44, 182, 1, 31, 27, 164, 0, 7, 4, 167, 0, 4, 3, 172]
abbrev dktX1_lambda_addHeavierFilter_11_0 : List UInt8 := dkwX1_lambda_addHeavierFilter_11_0 ++ []
theorem dksX1_lambda_addHeavierFilter_11_0 : cX1_lambda_addHeavierFilter_11.data.toList.drop 0 = dktX1_lambda_addHeavierFilter_11_0 := by decide +kernel
theorem dX1_lambda_addHeavierFilter_11_0 : decode cX1_lambda_addHeavierFilter_11 0 = .ok (.aload_n 0, 1) := dk_42 (dk_at dksX1_lambda_addHeavierFilter_11_0 0 rfl rfl)
theorem dX1_lambda_addHeavierFilter_11_1 : decode cX1_lambda_addHeavierFilter_11 1 = .ok (.aload_n 2, 1) := dk_44 (dk_at dksX1_lambda_addHeavierFilter_11_0 1 rfl rfl)
theorem dX1_lambda_addHeavierFilter_11_2 : decode cX1_lambda_addHeavierFilter_11 2 = .ok (.invokevirtual 287, 3) := dk_182 1 31 (dk_at dksX1_lambda_addHeavierFilter_11_0 2 rfl rfl)
theorem dX1_lambda_addHeavierFilter_11_5 : decode cX1_lambda_addHeavierFilter_11 5 = .ok (.iload_n 1, 1) := dk_27 (dk_at dksX1_lambda_addHeavierFilter_11_0 5 rfl rfl)
theorem dX1_lambda_addHeavierFilter_11_6 : decode cX1_lambda_addHeavierFilter_11 6 = .ok (.if_icmp .le 7, 3) := dk_164 0 7 (dk_at dksX1_lambda_addHeavierFilter_11_0 6 rfl rfl)
theorem dX1_lambda_addHeavierFilter_11_9 : decode cX1_lambda_addHeavierFilter_11 9 = .ok (.iconst 1, 1) := dk_4 (dk_at dksX1_lambda_addHeavierFilter_11_0 9 rfl rfl)
theorem dX1_lambda_addHeavierFilter_11_10 : decode cX1_lambda_addHeavierFilter_11 10 = .ok (.goto 4, 3) := dk_167 0 4 (dk_at dksX1_lambda_addHeavierFilter_11_0 10 rfl rfl)
theorem dX1_lambda_addHeavierFilter_11_13 : decode cX1_lambda_addHeavierFilter_11 13 = .ok (.iconst 0, 1) := dk_3 (dk_at dksX1_lambda_addHeavierFilter_11_0 13 rfl rfl)
theorem dX1_lambda_addHeavierFilter_11_14 : decode cX1_lambda_addHeavierFilter_11 14 = .ok (.ireturn, 1) := dk_172 (dk_at dksX1_lambda_addHeavierFilter_11_0 14 rfl rfl)
abbrev cX1_addCombinedFilter : ByteArray := prog_1_method_87_code
def yX1_addCombinedFilter : MethodName := ⟨RX1, "addCombinedFilter", "(III)I"⟩
def dkwX1_addCombinedFilter_6 : List UInt8 := [189, 0, 18, 89, 3, 25, 4, 83, 89, 4, 25, 5, 184, 1, 170, 83, 184, 1, 164, 182, 1, 153, 172]
abbrev dktX1_addCombinedFilter_6 : List UInt8 := dkwX1_addCombinedFilter_6 ++ []
def dkwX1_addCombinedFilter_5 : List UInt8 := [189, 0, 18, 89, 3, 25, 4, 83, 89, 4, 25, 5, 83, 184, 1, 167, 182, 1, 153, 172, 42, 5]
abbrev dktX1_addCombinedFilter_5 : List UInt8 := dkwX1_addCombinedFilter_5 ++ dktX1_addCombinedFilter_6
def dkwX1_addCombinedFilter_4 : List UInt8 := [42, 5, 189, 0, 18, 89, 3, 25, 4, 83, 89, 4, 25, 5, 83, 184, 1, 164, 182, 1, 153, 172, 42, 5]
abbrev dktX1_addCombinedFilter_4 : List UInt8 := dkwX1_addCombinedFilter_4 ++ dktX1_addCombinedFilter_5
def dkwX1_addCombinedFilter_3 : List UInt8 := [171, 0, 0, 0, 0, 70, 0, 0, 0, 2, 0, 0, 0, 0, 0, 0, 0, 26, 0, 0, 0, 1, 0, 0, 0, 48]
abbrev dktX1_addCombinedFilter_3 : List UInt8 := dkwX1_addCombinedFilter_3 ++ dktX1_addCombinedFilter_4
def dkwX1_addCombinedFilter_2 : List UInt8 := [180, 0, 20, 29, 50, 58, 5, 27]
abbrev dktX1_addCombinedFilter_2 : List UInt8 := dkwX1_addCombinedFilter_2 ++ dktX1_addCombinedFilter_3
def dkwX1_addCombinedFilter_1 : List UInt8 := [153, 0, 7, 4, 167, 0, 4, 3, 184, 0, 179, 42, 182, 1, 147, 42, 180, 0, 20, 28, 50, 58, 4, 42]
abbrev dktX1_addCombinedFilter_1 : List UInt8 := dkwX1_addCombinedFilter_1 ++ dktX1_addCombinedFilter_2
def dkwX1_addCombinedFilter_0 : List UInt8 := [27, 3, 5, 184, 0, 116, 153, 0, 23, 42, 28, 182, 1, 160, 153, 0, 15, 42, 29, 182, 1, 160]
abbrev dktX1_addCombinedFilter_0 : List UInt8 := dkwX1_addCombinedFilter_0 ++ dktX1_addCombinedFilter_1
theorem dksX1_addCombinedFilter_0 : cX1_addCombinedFilter.data.toList.drop 0 = dktX1_addCombinedFilter_0 := by decide +kernel
theorem dksX1_addCombinedFilter_1 : cX1_addCombinedFilter.data.toList.drop 22 = dktX1_addCombinedFilter_1 := dk_seg dksX1_addCombinedFilter_0 22 rfl rfl
theorem dksX1_addCombinedFilter_2 : cX1_addCombinedFilter.data.toList.drop 46 = dktX1_addCombinedFilter_2 := dk_seg dksX1_addCombinedFilter_1 24 rfl rfl
theorem dksX1_addCombinedFilter_3 : cX1_addCombinedFilter.data.toList.drop 54 = dktX1_addCombinedFilter_3 := dk_seg dksX1_addCombinedFilter_2 8 rfl rfl
theorem dksX1_addCombinedFilter_4 : cX1_addCombinedFilter.data.toList.drop 80 = dktX1_addCombinedFilter_4 := dk_seg dksX1_addCombinedFilter_3 26 rfl rfl
theorem dksX1_addCombinedFilter_5 : cX1_addCombinedFilter.data.toList.drop 104 = dktX1_addCombinedFilter_5 := dk_seg dksX1_addCombinedFilter_4 24 rfl rfl
theorem dksX1_addCombinedFilter_6 : cX1_addCombinedFilter.data.toList.drop 126 = dktX1_addCombinedFilter_6 := dk_seg dksX1_addCombinedFilter_5 22 rfl rfl
theorem dX1_addCombinedFilter_0 : decode cX1_addCombinedFilter 0 = .ok (.iload_n 1, 1) := dk_27 (dk_at dksX1_addCombinedFilter_0 0 rfl rfl)
theorem dX1_addCombinedFilter_1 : decode cX1_addCombinedFilter 1 = .ok (.iconst 0, 1) := dk_3 (dk_at dksX1_addCombinedFilter_0 1 rfl rfl)
theorem dX1_addCombinedFilter_2 : decode cX1_addCombinedFilter 2 = .ok (.iconst 2, 1) := dk_5 (dk_at dksX1_addCombinedFilter_0 2 rfl rfl)
theorem dX1_addCombinedFilter_3 : decode cX1_addCombinedFilter 3 = .ok (.invokestatic 116, 3) := dk_184 0 116 (dk_at dksX1_addCombinedFilter_0 3 rfl rfl)
theorem dX1_addCombinedFilter_6 : decode cX1_addCombinedFilter 6 = .ok (.ifCond .eq 23, 3) := dk_153 0 23 (dk_at dksX1_addCombinedFilter_0 6 rfl rfl)
theorem dX1_addCombinedFilter_9 : decode cX1_addCombinedFilter 9 = .ok (.aload_n 0, 1) := dk_42 (dk_at dksX1_addCombinedFilter_0 9 rfl rfl)
theorem dX1_addCombinedFilter_10 : decode cX1_addCombinedFilter 10 = .ok (.iload_n 2, 1) := dk_28 (dk_at dksX1_addCombinedFilter_0 10 rfl rfl)
theorem dX1_addCombinedFilter_11 : decode cX1_addCombinedFilter 11 = .ok (.invokevirtual 416, 3) := dk_182 1 160 (dk_at dksX1_addCombinedFilter_0 11 rfl rfl)
theorem dX1_addCombinedFilter_14 : decode cX1_addCombinedFilter 14 = .ok (.ifCond .eq 15, 3) := dk_153 0 15 (dk_at dksX1_addCombinedFilter_0 14 rfl rfl)
theorem dX1_addCombinedFilter_17 : decode cX1_addCombinedFilter 17 = .ok (.aload_n 0, 1) := dk_42 (dk_at dksX1_addCombinedFilter_0 17 rfl rfl)
theorem dX1_addCombinedFilter_18 : decode cX1_addCombinedFilter 18 = .ok (.iload_n 3, 1) := dk_29 (dk_at dksX1_addCombinedFilter_0 18 rfl rfl)
theorem dX1_addCombinedFilter_19 : decode cX1_addCombinedFilter 19 = .ok (.invokevirtual 416, 3) := dk_182 1 160 (dk_at dksX1_addCombinedFilter_0 19 rfl rfl)
theorem dX1_addCombinedFilter_22 : decode cX1_addCombinedFilter 22 = .ok (.ifCond .eq 7, 3) := dk_153 0 7 (dk_at dksX1_addCombinedFilter_1 0 rfl rfl)
theorem dX1_addCombinedFilter_25 : decode cX1_addCombinedFilter 25 = .ok (.iconst 1, 1) := dk_4 (dk_at dksX1_addCombinedFilter_1 3 rfl rfl)
theorem dX1_addCombinedFilter_26 : decode cX1_addCombinedFilter 26 = .ok (.goto 4, 3) := dk_167 0 4 (dk_at dksX1_addCombinedFilter_1 4 rfl rfl)
theorem dX1_addCombinedFilter_29 : decode cX1_addCombinedFilter 29 = .ok (.iconst 0, 1) := dk_3 (dk_at dksX1_addCombinedFilter_1 7 rfl rfl)
theorem dX1_addCombinedFilter_30 : decode cX1_addCombinedFilter 30 = .ok (.invokestatic 179, 3) := dk_184 0 179 (dk_at dksX1_addCombinedFilter_1 8 rfl rfl)
theorem dX1_addCombinedFilter_33 : decode cX1_addCombinedFilter 33 = .ok (.aload_n 0, 1) := dk_42 (dk_at dksX1_addCombinedFilter_1 11 rfl rfl)
theorem dX1_addCombinedFilter_34 : decode cX1_addCombinedFilter 34 = .ok (.invokevirtual 403, 3) := dk_182 1 147 (dk_at dksX1_addCombinedFilter_1 12 rfl rfl)
theorem dX1_addCombinedFilter_37 : decode cX1_addCombinedFilter 37 = .ok (.aload_n 0, 1) := dk_42 (dk_at dksX1_addCombinedFilter_1 15 rfl rfl)
theorem dX1_addCombinedFilter_38 : decode cX1_addCombinedFilter 38 = .ok (.getfield 20, 3) := dk_180 0 20 (dk_at dksX1_addCombinedFilter_1 16 rfl rfl)
theorem dX1_addCombinedFilter_41 : decode cX1_addCombinedFilter 41 = .ok (.iload_n 2, 1) := dk_28 (dk_at dksX1_addCombinedFilter_1 19 rfl rfl)
theorem dX1_addCombinedFilter_42 : decode cX1_addCombinedFilter 42 = .ok (.aaload, 1) := dk_50 (dk_at dksX1_addCombinedFilter_1 20 rfl rfl)
theorem dX1_addCombinedFilter_43 : decode cX1_addCombinedFilter 43 = .ok (.astore 4, 2) := dk_58 4 (dk_at dksX1_addCombinedFilter_1 21 rfl rfl)
theorem dX1_addCombinedFilter_45 : decode cX1_addCombinedFilter 45 = .ok (.aload_n 0, 1) := dk_42 (dk_at dksX1_addCombinedFilter_1 23 rfl rfl)
theorem dX1_addCombinedFilter_46 : decode cX1_addCombinedFilter 46 = .ok (.getfield 20, 3) := dk_180 0 20 (dk_at dksX1_addCombinedFilter_2 0 rfl rfl)
theorem dX1_addCombinedFilter_49 : decode cX1_addCombinedFilter 49 = .ok (.iload_n 3, 1) := dk_29 (dk_at dksX1_addCombinedFilter_2 3 rfl rfl)
theorem dX1_addCombinedFilter_50 : decode cX1_addCombinedFilter 50 = .ok (.aaload, 1) := dk_50 (dk_at dksX1_addCombinedFilter_2 4 rfl rfl)
theorem dX1_addCombinedFilter_51 : decode cX1_addCombinedFilter 51 = .ok (.astore 5, 2) := dk_58 5 (dk_at dksX1_addCombinedFilter_2 5 rfl rfl)
theorem dX1_addCombinedFilter_53 : decode cX1_addCombinedFilter 53 = .ok (.iload_n 1, 1) := dk_27 (dk_at dksX1_addCombinedFilter_2 7 rfl rfl)
theorem dX1_addCombinedFilter_54 : decode cX1_addCombinedFilter 54 = .ok (.lookupswitch 70 #[(0, 26), (1, 48)], 26) := by decide +kernel
theorem dX1_addCombinedFilter_80 : decode cX1_addCombinedFilter 80 = .ok (.aload_n 0, 1) := dk_42 (dk_at dksX1_addCombinedFilter_4 0 rfl rfl)
theorem dX1_addCombinedFilter_81 : decode cX1_addCombinedFilter 81 = .ok (.iconst 2, 1) := dk_5 (dk_at dksX1_addCombinedFilter_4 1 rfl rfl)
theorem dX1_addCombinedFilter_82 : decode cX1_addCombinedFilter 82 = .ok (.anewarray 18, 3) := dk_189 0 18 (dk_at dksX1_addCombinedFilter_4 2 rfl rfl)
theorem dX1_addCombinedFilter_85 : decode cX1_addCombinedFilter 85 = .ok (.dup, 1) := dk_89 (dk_at dksX1_addCombinedFilter_4 5 rfl rfl)
theorem dX1_addCombinedFilter_86 : decode cX1_addCombinedFilter 86 = .ok (.iconst 0, 1) := dk_3 (dk_at dksX1_addCombinedFilter_4 6 rfl rfl)
theorem dX1_addCombinedFilter_87 : decode cX1_addCombinedFilter 87 = .ok (.aload 4, 2) := dk_25 4 (dk_at dksX1_addCombinedFilter_4 7 rfl rfl)
theorem dX1_addCombinedFilter_89 : decode cX1_addCombinedFilter 89 = .ok (.aastore, 1) := dk_83 (dk_at dksX1_addCombinedFilter_4 9 rfl rfl)
theorem dX1_addCombinedFilter_90 : decode cX1_addCombinedFilter 90 = .ok (.dup, 1) := dk_89 (dk_at dksX1_addCombinedFilter_4 10 rfl rfl)
theorem dX1_addCombinedFilter_91 : decode cX1_addCombinedFilter 91 = .ok (.iconst 1, 1) := dk_4 (dk_at dksX1_addCombinedFilter_4 11 rfl rfl)
theorem dX1_addCombinedFilter_92 : decode cX1_addCombinedFilter 92 = .ok (.aload 5, 2) := dk_25 5 (dk_at dksX1_addCombinedFilter_4 12 rfl rfl)
theorem dX1_addCombinedFilter_94 : decode cX1_addCombinedFilter 94 = .ok (.aastore, 1) := dk_83 (dk_at dksX1_addCombinedFilter_4 14 rfl rfl)
theorem dX1_addCombinedFilter_95 : decode cX1_addCombinedFilter 95 = .ok (.invokestatic 420, 3) := dk_184 1 164 (dk_at dksX1_addCombinedFilter_4 15 rfl rfl)
theorem dX1_addCombinedFilter_98 : decode cX1_addCombinedFilter 98 = .ok (.invokevirtual 409, 3) := dk_182 1 153 (dk_at dksX1_addCombinedFilter_4 18 rfl rfl)
theorem dX1_addCombinedFilter_101 : decode cX1_addCombinedFilter 101 = .ok (.ireturn, 1) := dk_172 (dk_at dksX1_addCombinedFilter_4 21 rfl rfl)
theorem dX1_addCombinedFilter_102 : decode cX1_addCombinedFilter 102 = .ok (.aload_n 0, 1) := dk_42 (dk_at dksX1_addCombinedFilter_4 22 rfl rfl)
theorem dX1_addCombinedFilter_103 : decode cX1_addCombinedFilter 103 = .ok (.iconst 2, 1) := dk_5 (dk_at dksX1_addCombinedFilter_4 23 rfl rfl)
theorem dX1_addCombinedFilter_104 : decode cX1_addCombinedFilter 104 = .ok (.anewarray 18, 3) := dk_189 0 18 (dk_at dksX1_addCombinedFilter_5 0 rfl rfl)
theorem dX1_addCombinedFilter_107 : decode cX1_addCombinedFilter 107 = .ok (.dup, 1) := dk_89 (dk_at dksX1_addCombinedFilter_5 3 rfl rfl)
theorem dX1_addCombinedFilter_108 : decode cX1_addCombinedFilter 108 = .ok (.iconst 0, 1) := dk_3 (dk_at dksX1_addCombinedFilter_5 4 rfl rfl)
theorem dX1_addCombinedFilter_109 : decode cX1_addCombinedFilter 109 = .ok (.aload 4, 2) := dk_25 4 (dk_at dksX1_addCombinedFilter_5 5 rfl rfl)
theorem dX1_addCombinedFilter_111 : decode cX1_addCombinedFilter 111 = .ok (.aastore, 1) := dk_83 (dk_at dksX1_addCombinedFilter_5 7 rfl rfl)
theorem dX1_addCombinedFilter_112 : decode cX1_addCombinedFilter 112 = .ok (.dup, 1) := dk_89 (dk_at dksX1_addCombinedFilter_5 8 rfl rfl)
theorem dX1_addCombinedFilter_113 : decode cX1_addCombinedFilter 113 = .ok (.iconst 1, 1) := dk_4 (dk_at dksX1_addCombinedFilter_5 9 rfl rfl)
theorem dX1_addCombinedFilter_114 : decode cX1_addCombinedFilter 114 = .ok (.aload 5, 2) := dk_25 5 (dk_at dksX1_addCombinedFilter_5 10 rfl rfl)
theorem dX1_addCombinedFilter_116 : decode cX1_addCombinedFilter 116 = .ok (.aastore, 1) := dk_83 (dk_at dksX1_addCombinedFilter_5 12 rfl rfl)
theorem dX1_addCombinedFilter_117 : decode cX1_addCombinedFilter 117 = .ok (.invokestatic 423, 3) := dk_184 1 167 (dk_at dksX1_addCombinedFilter_5 13 rfl rfl)
theorem dX1_addCombinedFilter_120 : decode cX1_addCombinedFilter 120 = .ok (.invokevirtual 409, 3) := dk_182 1 153 (dk_at dksX1_addCombinedFilter_5 16 rfl rfl)
theorem dX1_addCombinedFilter_123 : decode cX1_addCombinedFilter 123 = .ok (.ireturn, 1) := dk_172 (dk_at dksX1_addCombinedFilter_5 19 rfl rfl)
theorem dX1_addCombinedFilter_124 : decode cX1_addCombinedFilter 124 = .ok (.aload_n 0, 1) := dk_42 (dk_at dksX1_addCombinedFilter_5 20 rfl rfl)
theorem dX1_addCombinedFilter_125 : decode cX1_addCombinedFilter 125 = .ok (.iconst 2, 1) := dk_5 (dk_at dksX1_addCombinedFilter_5 21 rfl rfl)
theorem dX1_addCombinedFilter_126 : decode cX1_addCombinedFilter 126 = .ok (.anewarray 18, 3) := dk_189 0 18 (dk_at dksX1_addCombinedFilter_6 0 rfl rfl)
theorem dX1_addCombinedFilter_129 : decode cX1_addCombinedFilter 129 = .ok (.dup, 1) := dk_89 (dk_at dksX1_addCombinedFilter_6 3 rfl rfl)
theorem dX1_addCombinedFilter_130 : decode cX1_addCombinedFilter 130 = .ok (.iconst 0, 1) := dk_3 (dk_at dksX1_addCombinedFilter_6 4 rfl rfl)
theorem dX1_addCombinedFilter_131 : decode cX1_addCombinedFilter 131 = .ok (.aload 4, 2) := dk_25 4 (dk_at dksX1_addCombinedFilter_6 5 rfl rfl)
theorem dX1_addCombinedFilter_133 : decode cX1_addCombinedFilter 133 = .ok (.aastore, 1) := dk_83 (dk_at dksX1_addCombinedFilter_6 7 rfl rfl)
theorem dX1_addCombinedFilter_134 : decode cX1_addCombinedFilter 134 = .ok (.dup, 1) := dk_89 (dk_at dksX1_addCombinedFilter_6 8 rfl rfl)
theorem dX1_addCombinedFilter_135 : decode cX1_addCombinedFilter 135 = .ok (.iconst 1, 1) := dk_4 (dk_at dksX1_addCombinedFilter_6 9 rfl rfl)
theorem dX1_addCombinedFilter_136 : decode cX1_addCombinedFilter 136 = .ok (.aload 5, 2) := dk_25 5 (dk_at dksX1_addCombinedFilter_6 10 rfl rfl)
theorem dX1_addCombinedFilter_138 : decode cX1_addCombinedFilter 138 = .ok (.invokestatic 426, 3) := dk_184 1 170 (dk_at dksX1_addCombinedFilter_6 12 rfl rfl)
theorem dX1_addCombinedFilter_141 : decode cX1_addCombinedFilter 141 = .ok (.aastore, 1) := dk_83 (dk_at dksX1_addCombinedFilter_6 15 rfl rfl)
theorem dX1_addCombinedFilter_142 : decode cX1_addCombinedFilter 142 = .ok (.invokestatic 420, 3) := dk_184 1 164 (dk_at dksX1_addCombinedFilter_6 16 rfl rfl)
theorem dX1_addCombinedFilter_145 : decode cX1_addCombinedFilter 145 = .ok (.invokevirtual 409, 3) := dk_182 1 153 (dk_at dksX1_addCombinedFilter_6 19 rfl rfl)
theorem dX1_addCombinedFilter_148 : decode cX1_addCombinedFilter 148 = .ok (.ireturn, 1) := dk_172 (dk_at dksX1_addCombinedFilter_6 22 rfl rfl)
abbrev cX1_isFilter : ByteArray := prog_1_method_84_code
def yX1_isFilter : MethodName := ⟨RX1, "isFilter", "(I)Z"⟩
def dkwX1_isFilter_0 : List UInt8 := [27, 3, 42, 180, 0, 53, 4, 100, 184, 0, 116, 172]
abbrev dktX1_isFilter_0 : List UInt8 := dkwX1_isFilter_0 ++ []
theorem dksX1_isFilter_0 : cX1_isFilter.data.toList.drop 0 = dktX1_isFilter_0 := by decide +kernel
theorem dX1_isFilter_0 : decode cX1_isFilter 0 = .ok (.iload_n 1, 1) := dk_27 (dk_at dksX1_isFilter_0 0 rfl rfl)
theorem dX1_isFilter_1 : decode cX1_isFilter 1 = .ok (.iconst 0, 1) := dk_3 (dk_at dksX1_isFilter_0 1 rfl rfl)
theorem dX1_isFilter_2 : decode cX1_isFilter 2 = .ok (.aload_n 0, 1) := dk_42 (dk_at dksX1_isFilter_0 2 rfl rfl)
theorem dX1_isFilter_3 : decode cX1_isFilter 3 = .ok (.getfield 53, 3) := dk_180 0 53 (dk_at dksX1_isFilter_0 3 rfl rfl)
theorem dX1_isFilter_6 : decode cX1_isFilter 6 = .ok (.iconst 1, 1) := dk_4 (dk_at dksX1_isFilter_0 6 rfl rfl)
theorem dX1_isFilter_7 : decode cX1_isFilter 7 = .ok (.isub, 1) := dk_100 (dk_at dksX1_isFilter_0 7 rfl rfl)
theorem dX1_isFilter_8 : decode cX1_isFilter 8 = .ok (.invokestatic 116, 3) := dk_184 0 116 (dk_at dksX1_isFilter_0 8 rfl rfl)
theorem dX1_isFilter_11 : decode cX1_isFilter 11 = .ok (.ireturn, 1) := dk_172 (dk_at dksX1_isFilter_0 11 rfl rfl)
abbrev cX1_all : ByteArray := prog_1_method_79_code
def yX1_all : MethodName := ⟨RX1, "all", "([LIntervalTree$Filter;)LIntervalTree$Filter;"⟩
theorem dX1_all_0 : decode cX1_all 0 = .ok (.aload_n 0, 1) := by decide +kernel
theorem dX1_all_1 : decode cX1_all 1 = .ok (.invokedynamic 394, 5) := by decide +kernel
theorem dX1_all_6 : decode cX1_all 6 = .ok (.areturn, 1) := by decide +kernel
abbrev cX1_lambda_all_7 : ByteArray := prog_1_method_107_code
def yX1_lambda_all_7 : MethodName := ⟨RX1, "lambda$all$7", "([LIntervalTree$Filter;LIntervalTree$Node;)Z"⟩
def dkwX1_lambda_all_7_1 : List UInt8 := [185, 1, 191, 2, 0, 154, 0, 5, 3, 172, 132, 4, 1, 167, 255, 228, 4, 172]
abbrev dktX1_lambda_all_7_1 : List UInt8 := dkwX1_lambda_all_7_1 ++ []
def dkwX1_lambda_all_7_0 : List UInt8 := [42, 77, 44, 190, 62, 3, 54, 4, 21, 4, 29, 162, 0, 28, 44, 21, 4, 50, 58, 5, 25, 5, 43]
abbrev dktX1_lambda_all_7_0 : List UInt8 := dkwX1_lambda_all_7_0 ++ dktX1_lambda_all_7_1
theorem dksX1_lambda_all_7_0 : cX1_lambda_all_7.data.toList.drop 0 = dktX1_lambda_all_7_0 := by decide +kernel
theorem dksX1_lambda_all_7_1 : cX1_lambda_all_7.data.toList.drop 23 = dktX1_lambda_all_7_1 := dk_seg dksX1_lambda_all_7_0 23 rfl rfl
theorem dX1_lambda_all_7_0 : decode cX1_lambda_all_7 0 = .ok (.aload_n 0, 1) := dk_42 (dk_at dksX1_lambda_all_7_0 0 rfl rfl)
theorem dX1_lambda_all_7_1 : decode cX1_lambda_all_7 1 = .ok (.astore_n 2, 1) := dk_77 (dk_at dksX1_lambda_all_7_0 1 rfl rfl)
theorem dX1_lambda_all_7_2 : decode cX1_lambda_all_7 2 = .ok (.aload_n 2, 1) := dk_44 (dk_at dksX1_lambda_all_7_0 2 rfl rfl)
theorem dX1_lambda_all_7_3 : decode cX1_lambda_all_7 3 = .ok (.arraylength, 1) := dk_190 (dk_at dksX1_lambda_all_7_0 3 rfl rfl)
theorem dX1_lambda_all_7_4 : decode cX1_lambda_all_7 4 = .ok (.istore_n 3, 1) := dk_62 (dk_at dksX1_lambda_all_7_0 4 rfl rfl)
theorem dX1_lambda_all_7_5 : decode cX1_lambda_all_7 5 = .ok (.iconst 0, 1) := dk_3 (dk_at dksX1_lambda_all_7_0 5 rfl rfl)
theorem dX1_lambda_all_7_6 : decode cX1_lambda_all_7 6 = .ok (.istore 4, 2) := dk_54 4 (dk_at dksX1_lambda_all_7_0 6 rfl rfl)
theorem dX1_lambda_all_7_8 : decode cX1_lambda_all_7 8 = .ok (.iload 4, 2) := dk_21 4 (dk_at dksX1_lambda_all_7_0 8 rfl rfl)
theorem dX1_lambda_all_7_10 : decode cX1_lambda_all_7 10 = .ok (.iload_n 3, 1) := dk_29 (dk_at dksX1_lambda_all_7_0 10 rfl rfl)
theorem dX1_lambda_all_7_11 : decode cX1_lambda_all_7 11 = .ok (.if_icmp .ge 28, 3) := dk_162 0 28 (dk_at dksX1_lambda_all_7_0 11 rfl rfl)
theorem dX1_lambda_all_7_14 : decode cX1_lambda_all_7 14 = .ok (.aload_n 2, 1) := dk_44 (dk_at dksX1_lambda_all_7_0 14 rfl rfl)
theorem dX1_lambda_all_7_15 : decode cX1_lambda_all_7 15 = .ok (.iload 4, 2) := dk_21 4 (dk_at dksX1_lambda_all_7_0 15 rfl rfl)
theorem dX1_lambda_all_7_17 : decode cX1_lambda_all_7 17 = .ok (.aaload, 1) := dk_50 (dk_at dksX1_lambda_all_7_0 17 rfl rfl)
theorem dX1_lambda_all_7_18 : decode cX1_lambda_all_7 18 = .ok (.astore 5, 2) := dk_58 5 (dk_at dksX1_lambda_all_7_0 18 rfl rfl)
theorem dX1_lambda_all_7_20 : decode cX1_lambda_all_7 20 = .ok (.aload 5, 2) := dk_25 5 (dk_at dksX1_lambda_all_7_0 20 rfl rfl)
theorem dX1_lambda_all_7_22 : decode cX1_lambda_all_7 22 = .ok (.aload_n 1, 1) := dk_43 (dk_at dksX1_lambda_all_7_0 22 rfl rfl)
theorem dX1_lambda_all_7_23 : decode cX1_lambda_all_7 23 = .ok (.invokeinterface 447 2, 5) := by decide +kernel
theorem dX1_lambda_all_7_28 : decode cX1_lambda_all_7 28 = .ok (.ifCond .ne 5, 3) := dk_154 0 5 (dk_at dksX1_lambda_all_7_1 5 rfl rfl)
theorem dX1_lambda_all_7_31 : decode cX1_lambda_all_7 31 = .ok (.iconst 0, 1) := dk_3 (dk_at dksX1_lambda_all_7_1 8 rfl rfl)
theorem dX1_lambda_all_7_32 : decode cX1_lambda_all_7 32 = .ok (.ireturn, 1) := dk_172 (dk_at dksX1_lambda_all_7_1 9 rfl rfl)
theorem dX1_lambda_all_7_33 : decode cX1_lambda_all_7 33 = .ok (.iinc 4 1, 3) := dk_132 4 1 (dk_at dksX1_lambda_all_7_1 10 rfl rfl)
theorem dX1_lambda_all_7_36 : decode cX1_lambda_all_7 36 = .ok (.goto (-28), 3) := dk_167 255 228 (dk_at dksX1_lambda_all_7_1 13 rfl rfl)
theorem dX1_lambda_all_7_39 : decode cX1_lambda_all_7 39 = .ok (.iconst 1, 1) := dk_4 (dk_at dksX1_lambda_all_7_1 16 rfl rfl)
theorem dX1_lambda_all_7_40 : decode cX1_lambda_all_7 40 = .ok (.ireturn, 1) := dk_172 (dk_at dksX1_lambda_all_7_1 17 rfl rfl)
abbrev cX1_any : ByteArray := prog_1_method_80_code
def yX1_any : MethodName := ⟨RX1, "any", "([LIntervalTree$Filter;)LIntervalTree$Filter;"⟩
theorem dX1_any_0 : decode cX1_any 0 = .ok (.aload_n 0, 1) := by decide +kernel
theorem dX1_any_1 : decode cX1_any 1 = .ok (.invokedynamic 397, 5) := by decide +kernel
theorem dX1_any_6 : decode cX1_any 6 = .ok (.areturn, 1) := by decide +kernel
abbrev cX1_lambda_any_8 : ByteArray := prog_1_method_106_code
def yX1_lambda_any_8 : MethodName := ⟨RX1, "lambda$any$8", "([LIntervalTree$Filter;LIntervalTree$Node;)Z"⟩
def dkwX1_lambda_any_8_1 : List UInt8 := [185, 1, 191, 2, 0, 153, 0, 5, 4, 172, 132, 4, 1, 167, 255, 228, 3, 172]
abbrev dktX1_lambda_any_8_1 : List UInt8 := dkwX1_lambda_any_8_1 ++ []
def dkwX1_lambda_any_8_0 : List UInt8 := [42, 77, 44, 190, 62, 3, 54, 4, 21, 4, 29, 162, 0, 28, 44, 21, 4, 50, 58, 5, 25, 5, 43]
abbrev dktX1_lambda_any_8_0 : List UInt8 := dkwX1_lambda_any_8_0 ++ dktX1_lambda_any_8_1
theorem dksX1_lambda_any_8_0 : cX1_lambda_any_8.data.toList.drop 0 = dktX1_lambda_any_8_0 := by decide +kernel
theorem dksX1_lambda_any_8_1 : cX1_lambda_any_8.data.toList.drop 23 = dktX1_lambda_any_8_1 := dk_seg dksX1_lambda_any_8_0 23 rfl rfl
theorem dX1_lambda_any_8_0 : decode cX1_lambda_any_8 0 = .ok (.aload_n 0, 1) := dk_42 (dk_at dksX1_lambda_any_8_0 0 rfl rfl)
theorem dX1_lambda_any_8_1 : decode cX1_lambda_any_8 1 = .ok (.astore_n 2, 1) := dk_77 (dk_at dksX1_lambda_any_8_0 1 rfl rfl)
theorem dX1_lambda_any_8_2 : decode cX1_lambda_any_8 2 = .ok (.aload_n 2, 1) := dk_44 (dk_at dksX1_lambda_any_8_0 2 rfl rfl)
theorem dX1_lambda_any_8_3 : decode cX1_lambda_any_8 3 = .ok (.arraylength, 1) := dk_190 (dk_at dksX1_lambda_any_8_0 3 rfl rfl)
theorem dX1_lambda_any_8_4 : decode cX1_lambda_any_8 4 = .ok (.istore_n 3, 1) := dk_62 (dk_at dksX1_lambda_any_8_0 4 rfl rfl)
theorem dX1_lambda_any_8_5 : decode cX1_lambda_any_8 5 = .ok (.iconst 0, 1) := dk_3 (dk_at dksX1_lambda_any_8_0 5 rfl rfl)
theorem dX1_lambda_any_8_6 : decode cX1_lambda_any_8 6 = .ok (.istore 4, 2) := dk_54 4 (dk_at dksX1_lambda_any_8_0 6 rfl rfl)
theorem dX1_lambda_any_8_8 : decode cX1_lambda_any_8 8 = .ok (.iload 4, 2) := dk_21 4 (dk_at dksX1_lambda_any_8_0 8 rfl rfl)
theorem dX1_lambda_any_8_10 : decode cX1_lambda_any_8 10 = .ok (.iload_n 3, 1) := dk_29 (dk_at dksX1_lambda_any_8_0 10 rfl rfl)
theorem dX1_lambda_any_8_11 : decode cX1_lambda_any_8 11 = .ok (.if_icmp .ge 28, 3) := dk_162 0 28 (dk_at dksX1_lambda_any_8_0 11 rfl rfl)
theorem dX1_lambda_any_8_14 : decode cX1_lambda_any_8 14 = .ok (.aload_n 2, 1) := dk_44 (dk_at dksX1_lambda_any_8_0 14 rfl rfl)
theorem dX1_lambda_any_8_15 : decode cX1_lambda_any_8 15 = .ok (.iload 4, 2) := dk_21 4 (dk_at dksX1_lambda_any_8_0 15 rfl rfl)
theorem dX1_lambda_any_8_17 : decode cX1_lambda_any_8 17 = .ok (.aaload, 1) := dk_50 (dk_at dksX1_lambda_any_8_0 17 rfl rfl)
theorem dX1_lambda_any_8_18 : decode cX1_lambda_any_8 18 = .ok (.astore 5, 2) := dk_58 5 (dk_at dksX1_lambda_any_8_0 18 rfl rfl)
theorem dX1_lambda_any_8_20 : decode cX1_lambda_any_8 20 = .ok (.aload 5, 2) := dk_25 5 (dk_at dksX1_lambda_any_8_0 20 rfl rfl)
theorem dX1_lambda_any_8_22 : decode cX1_lambda_any_8 22 = .ok (.aload_n 1, 1) := dk_43 (dk_at dksX1_lambda_any_8_0 22 rfl rfl)
theorem dX1_lambda_any_8_23 : decode cX1_lambda_any_8 23 = .ok (.invokeinterface 447 2, 5) := by decide +kernel
theorem dX1_lambda_any_8_28 : decode cX1_lambda_any_8 28 = .ok (.ifCond .eq 5, 3) := dk_153 0 5 (dk_at dksX1_lambda_any_8_1 5 rfl rfl)
theorem dX1_lambda_any_8_31 : decode cX1_lambda_any_8 31 = .ok (.iconst 1, 1) := dk_4 (dk_at dksX1_lambda_any_8_1 8 rfl rfl)
theorem dX1_lambda_any_8_32 : decode cX1_lambda_any_8 32 = .ok (.ireturn, 1) := dk_172 (dk_at dksX1_lambda_any_8_1 9 rfl rfl)
theorem dX1_lambda_any_8_33 : decode cX1_lambda_any_8 33 = .ok (.iinc 4 1, 3) := dk_132 4 1 (dk_at dksX1_lambda_any_8_1 10 rfl rfl)
theorem dX1_lambda_any_8_36 : decode cX1_lambda_any_8 36 = .ok (.goto (-28), 3) := dk_167 255 228 (dk_at dksX1_lambda_any_8_1 13 rfl rfl)
theorem dX1_lambda_any_8_39 : decode cX1_lambda_any_8 39 = .ok (.iconst 0, 1) := dk_3 (dk_at dksX1_lambda_any_8_1 16 rfl rfl)
theorem dX1_lambda_any_8_40 : decode cX1_lambda_any_8 40 = .ok (.ireturn, 1) := dk_172 (dk_at dksX1_lambda_any_8_1 17 rfl rfl)
abbrev cX1_not : ByteArray := prog_1_method_81_code
def yX1_not : MethodName := ⟨RX1, "not", "(LIntervalTree$Filter;)LIntervalTree$Filter;"⟩
theorem dX1_not_0 : decode cX1_not 0 = .ok (.aload_n 0, 1) := by decide +kernel
theorem dX1_not_1 : decode cX1_not 1 = .ok (.invokedynamic 398, 5) := by decide +kernel
theorem dX1_not_6 : decode cX1_not 6 = .ok (.areturn, 1) := by decide +kernel
abbrev cX1_lambda_not_9 : ByteArray := prog_1_method_105_code
def yX1_lambda_not_9 : MethodName := ⟨RX1, "lambda$not$9", "(LIntervalTree$Filter;LIntervalTree$Node;)Z"⟩
def dkwX1_lambda_not_9_0 : List UInt8 := [42, 43, 185, 1, 191, 2, 0, 154, 0, 7, 4, 167, 0, 4, 3, 172]
abbrev dktX1_lambda_not_9_0 : List UInt8 := dkwX1_lambda_not_9_0 ++ []
theorem dksX1_lambda_not_9_0 : cX1_lambda_not_9.data.toList.drop 0 = dktX1_lambda_not_9_0 := by decide +kernel
theorem dX1_lambda_not_9_0 : decode cX1_lambda_not_9 0 = .ok (.aload_n 0, 1) := dk_42 (dk_at dksX1_lambda_not_9_0 0 rfl rfl)
theorem dX1_lambda_not_9_1 : decode cX1_lambda_not_9 1 = .ok (.aload_n 1, 1) := dk_43 (dk_at dksX1_lambda_not_9_0 1 rfl rfl)
theorem dX1_lambda_not_9_2 : decode cX1_lambda_not_9 2 = .ok (.invokeinterface 447 2, 5) := by decide +kernel
theorem dX1_lambda_not_9_7 : decode cX1_lambda_not_9 7 = .ok (.ifCond .ne 7, 3) := dk_154 0 7 (dk_at dksX1_lambda_not_9_0 7 rfl rfl)
theorem dX1_lambda_not_9_10 : decode cX1_lambda_not_9 10 = .ok (.iconst 1, 1) := dk_4 (dk_at dksX1_lambda_not_9_0 10 rfl rfl)
theorem dX1_lambda_not_9_11 : decode cX1_lambda_not_9 11 = .ok (.goto 4, 3) := dk_167 0 4 (dk_at dksX1_lambda_not_9_0 11 rfl rfl)
theorem dX1_lambda_not_9_14 : decode cX1_lambda_not_9 14 = .ok (.iconst 0, 1) := dk_3 (dk_at dksX1_lambda_not_9_0 14 rfl rfl)
theorem dX1_lambda_not_9_15 : decode cX1_lambda_not_9 15 = .ok (.ireturn, 1) := dk_172 (dk_at dksX1_lambda_not_9_0 15 rfl rfl)
abbrev cX1_feed : ByteArray := prog_1_method_88_code
def yX1_feed : MethodName := ⟨RX1, "feed", "(I)I"⟩
def dkwX1_feed_2 : List UInt8 := [96, 181, 1, 173, 42, 180, 1, 173, 172]
abbrev dktX1_feed_2 : List UInt8 := dkwX1_feed_2 ++ []
def dkwX1_feed_1 : List UInt8 := [19, 1, 176, 183, 0, 220, 191, 42, 180, 0, 68, 42, 180, 1, 173, 27, 145, 84, 42, 89, 180, 1, 173, 4]
abbrev dktX1_feed_1 : List UInt8 := dkwX1_feed_1 ++ dktX1_feed_2
def dkwX1_feed_0 : List UInt8 := [27, 3, 17, 0, 255, 184, 0, 116, 184, 0, 179, 42, 180, 1, 173, 16, 60, 160, 0, 14, 187, 0, 216, 89]
abbrev dktX1_feed_0 : List UInt8 := dkwX1_feed_0 ++ dktX1_feed_1
theorem dksX1_feed_0 : cX1_feed.data.toList.drop 0 = dktX1_feed_0 := by decide +kernel
theorem dksX1_feed_1 : cX1_feed.data.toList.drop 24 = dktX1_feed_1 := dk_seg dksX1_feed_0 24 rfl rfl
theorem dksX1_feed_2 : cX1_feed.data.toList.drop 48 = dktX1_feed_2 := dk_seg dksX1_feed_1 24 rfl rfl
theorem dX1_feed_0 : decode cX1_feed 0 = .ok (.iload_n 1, 1) := dk_27 (dk_at dksX1_feed_0 0 rfl rfl)
theorem dX1_feed_1 : decode cX1_feed 1 = .ok (.iconst 0, 1) := dk_3 (dk_at dksX1_feed_0 1 rfl rfl)
theorem dX1_feed_2 : decode cX1_feed 2 = .ok (.sipush 255, 3) := dk_17 0 255 (dk_at dksX1_feed_0 2 rfl rfl)
theorem dX1_feed_5 : decode cX1_feed 5 = .ok (.invokestatic 116, 3) := dk_184 0 116 (dk_at dksX1_feed_0 5 rfl rfl)
theorem dX1_feed_8 : decode cX1_feed 8 = .ok (.invokestatic 179, 3) := dk_184 0 179 (dk_at dksX1_feed_0 8 rfl rfl)
theorem dX1_feed_11 : decode cX1_feed 11 = .ok (.aload_n 0, 1) := dk_42 (dk_at dksX1_feed_0 11 rfl rfl)
theorem dX1_feed_12 : decode cX1_feed 12 = .ok (.getfield 429, 3) := dk_180 1 173 (dk_at dksX1_feed_0 12 rfl rfl)
theorem dX1_feed_15 : decode cX1_feed 15 = .ok (.bipush 60, 2) := dk_16 60 (dk_at dksX1_feed_0 15 rfl rfl)
theorem dX1_feed_17 : decode cX1_feed 17 = .ok (.if_icmp .ne 14, 3) := dk_160 0 14 (dk_at dksX1_feed_0 17 rfl rfl)
theorem dX1_feed_20 : decode cX1_feed 20 = .ok (.new 216, 3) := dk_187 0 216 (dk_at dksX1_feed_0 20 rfl rfl)
theorem dX1_feed_23 : decode cX1_feed 23 = .ok (.dup, 1) := dk_89 (dk_at dksX1_feed_0 23 rfl rfl)
theorem dX1_feed_24 : decode cX1_feed 24 = .ok (.ldc_w 432, 3) := dk_19 1 176 (dk_at dksX1_feed_1 0 rfl rfl)
theorem dX1_feed_27 : decode cX1_feed 27 = .ok (.invokespecial 220, 3) := dk_183 0 220 (dk_at dksX1_feed_1 3 rfl rfl)
theorem dX1_feed_30 : decode cX1_feed 30 = .ok (.athrow, 1) := dk_191 (dk_at dksX1_feed_1 6 rfl rfl)
theorem dX1_feed_31 : decode cX1_feed 31 = .ok (.aload_n 0, 1) := dk_42 (dk_at dksX1_feed_1 7 rfl rfl)
theorem dX1_feed_32 : decode cX1_feed 32 = .ok (.getfield 68, 3) := dk_180 0 68 (dk_at dksX1_feed_1 8 rfl rfl)
theorem dX1_feed_35 : decode cX1_feed 35 = .ok (.aload_n 0, 1) := dk_42 (dk_at dksX1_feed_1 11 rfl rfl)
theorem dX1_feed_36 : decode cX1_feed 36 = .ok (.getfield 429, 3) := dk_180 1 173 (dk_at dksX1_feed_1 12 rfl rfl)
theorem dX1_feed_39 : decode cX1_feed 39 = .ok (.iload_n 1, 1) := dk_27 (dk_at dksX1_feed_1 15 rfl rfl)
theorem dX1_feed_40 : decode cX1_feed 40 = .ok (.i2b, 1) := dk_145 (dk_at dksX1_feed_1 16 rfl rfl)
theorem dX1_feed_41 : decode cX1_feed 41 = .ok (.bastore, 1) := dk_84 (dk_at dksX1_feed_1 17 rfl rfl)
theorem dX1_feed_42 : decode cX1_feed 42 = .ok (.aload_n 0, 1) := dk_42 (dk_at dksX1_feed_1 18 rfl rfl)
theorem dX1_feed_43 : decode cX1_feed 43 = .ok (.dup, 1) := dk_89 (dk_at dksX1_feed_1 19 rfl rfl)
theorem dX1_feed_44 : decode cX1_feed 44 = .ok (.getfield 429, 3) := dk_180 1 173 (dk_at dksX1_feed_1 20 rfl rfl)
theorem dX1_feed_47 : decode cX1_feed 47 = .ok (.iconst 1, 1) := dk_4 (dk_at dksX1_feed_1 23 rfl rfl)
theorem dX1_feed_48 : decode cX1_feed 48 = .ok (.iadd, 1) := dk_96 (dk_at dksX1_feed_2 0 rfl rfl)
theorem dX1_feed_49 : decode cX1_feed 49 = .ok (.putfield 429, 3) := dk_181 1 173 (dk_at dksX1_feed_2 1 rfl rfl)
theorem dX1_feed_52 : decode cX1_feed 52 = .ok (.aload_n 0, 1) := dk_42 (dk_at dksX1_feed_2 4 rfl rfl)
theorem dX1_feed_53 : decode cX1_feed 53 = .ok (.getfield 429, 3) := dk_180 1 173 (dk_at dksX1_feed_2 5 rfl rfl)
theorem dX1_feed_56 : decode cX1_feed 56 = .ok (.ireturn, 1) := dk_172 (dk_at dksX1_feed_2 8 rfl rfl)
abbrev cX1_parseFilter : ByteArray := prog_1_method_89_code
def yX1_parseFilter : MethodName := ⟨RX1, "parseFilter", "()I"⟩
def dkwX1_parseFilter_2 : List UInt8 := [181, 1, 173, 45, 191]
abbrev dktX1_parseFilter_2 : List UInt8 := dkwX1_parseFilter_2 ++ []
def dkwX1_parseFilter_1 : List UInt8 := [181, 1, 173, 27, 172, 76, 16, 156, 43, 180, 1, 188, 100, 61, 42, 3, 181, 1, 173, 28, 172, 78, 42, 3]
abbrev dktX1_parseFilter_1 : List UInt8 := dkwX1_parseFilter_1 ++ dktX1_parseFilter_2
def dkwX1_parseFilter_0 : List UInt8 := [42, 182, 1, 147, 42, 187, 1, 178, 89, 42, 183, 1, 180, 182, 1, 183, 182, 1, 153, 60, 42, 3]
abbrev dktX1_parseFilter_0 : List UInt8 := dkwX1_parseFilter_0 ++ dktX1_parseFilter_1
theorem dksX1_parseFilter_0 : cX1_parseFilter.data.toList.drop 0 = dktX1_parseFilter_0 := by decide +kernel
theorem dksX1_parseFilter_1 : cX1_parseFilter.data.toList.drop 22 = dktX1_parseFilter_1 := dk_seg dksX1_parseFilter_0 22 rfl rfl
theorem dksX1_parseFilter_2 : cX1_parseFilter.data.toList.drop 46 = dktX1_parseFilter_2 := dk_seg dksX1_parseFilter_1 24 rfl rfl
theorem dX1_parseFilter_0 : decode cX1_parseFilter 0 = .ok (.aload_n 0, 1) := dk_42 (dk_at dksX1_parseFilter_0 0 rfl rfl)
theorem dX1_parseFilter_1 : decode cX1_parseFilter 1 = .ok (.invokevirtual 403, 3) := dk_182 1 147 (dk_at dksX1_parseFilter_0 1 rfl rfl)
theorem dX1_parseFilter_4 : decode cX1_parseFilter 4 = .ok (.aload_n 0, 1) := dk_42 (dk_at dksX1_parseFilter_0 4 rfl rfl)
theorem dX1_parseFilter_5 : decode cX1_parseFilter 5 = .ok (.new 434, 3) := dk_187 1 178 (dk_at dksX1_parseFilter_0 5 rfl rfl)
theorem dX1_parseFilter_8 : decode cX1_parseFilter 8 = .ok (.dup, 1) := dk_89 (dk_at dksX1_parseFilter_0 8 rfl rfl)
theorem dX1_parseFilter_9 : decode cX1_parseFilter 9 = .ok (.aload_n 0, 1) := dk_42 (dk_at dksX1_parseFilter_0 9 rfl rfl)
theorem dX1_parseFilter_10 : decode cX1_parseFilter 10 = .ok (.invokespecial 436, 3) := dk_183 1 180 (dk_at dksX1_parseFilter_0 10 rfl rfl)
theorem dX1_parseFilter_13 : decode cX1_parseFilter 13 = .ok (.invokevirtual 439, 3) := dk_182 1 183 (dk_at dksX1_parseFilter_0 13 rfl rfl)
theorem dX1_parseFilter_16 : decode cX1_parseFilter 16 = .ok (.invokevirtual 409, 3) := dk_182 1 153 (dk_at dksX1_parseFilter_0 16 rfl rfl)
theorem dX1_parseFilter_19 : decode cX1_parseFilter 19 = .ok (.istore_n 1, 1) := dk_60 (dk_at dksX1_parseFilter_0 19 rfl rfl)
theorem dX1_parseFilter_20 : decode cX1_parseFilter 20 = .ok (.aload_n 0, 1) := dk_42 (dk_at dksX1_parseFilter_0 20 rfl rfl)
theorem dX1_parseFilter_21 : decode cX1_parseFilter 21 = .ok (.iconst 0, 1) := dk_3 (dk_at dksX1_parseFilter_0 21 rfl rfl)
theorem dX1_parseFilter_22 : decode cX1_parseFilter 22 = .ok (.putfield 429, 3) := dk_181 1 173 (dk_at dksX1_parseFilter_1 0 rfl rfl)
theorem dX1_parseFilter_25 : decode cX1_parseFilter 25 = .ok (.iload_n 1, 1) := dk_27 (dk_at dksX1_parseFilter_1 3 rfl rfl)
theorem dX1_parseFilter_26 : decode cX1_parseFilter 26 = .ok (.ireturn, 1) := dk_172 (dk_at dksX1_parseFilter_1 4 rfl rfl)
theorem dX1_parseFilter_27 : decode cX1_parseFilter 27 = .ok (.astore_n 1, 1) := dk_76 (dk_at dksX1_parseFilter_1 5 rfl rfl)
theorem dX1_parseFilter_28 : decode cX1_parseFilter 28 = .ok (.bipush (-100), 2) := dk_16 156 (dk_at dksX1_parseFilter_1 6 rfl rfl)
theorem dX1_parseFilter_30 : decode cX1_parseFilter 30 = .ok (.aload_n 1, 1) := dk_43 (dk_at dksX1_parseFilter_1 8 rfl rfl)
theorem dX1_parseFilter_31 : decode cX1_parseFilter 31 = .ok (.getfield 444, 3) := dk_180 1 188 (dk_at dksX1_parseFilter_1 9 rfl rfl)
theorem dX1_parseFilter_34 : decode cX1_parseFilter 34 = .ok (.isub, 1) := dk_100 (dk_at dksX1_parseFilter_1 12 rfl rfl)
theorem dX1_parseFilter_35 : decode cX1_parseFilter 35 = .ok (.istore_n 2, 1) := dk_61 (dk_at dksX1_parseFilter_1 13 rfl rfl)
theorem dX1_parseFilter_36 : decode cX1_parseFilter 36 = .ok (.aload_n 0, 1) := dk_42 (dk_at dksX1_parseFilter_1 14 rfl rfl)
theorem dX1_parseFilter_37 : decode cX1_parseFilter 37 = .ok (.iconst 0, 1) := dk_3 (dk_at dksX1_parseFilter_1 15 rfl rfl)
theorem dX1_parseFilter_38 : decode cX1_parseFilter 38 = .ok (.putfield 429, 3) := dk_181 1 173 (dk_at dksX1_parseFilter_1 16 rfl rfl)
theorem dX1_parseFilter_41 : decode cX1_parseFilter 41 = .ok (.iload_n 2, 1) := dk_28 (dk_at dksX1_parseFilter_1 19 rfl rfl)
theorem dX1_parseFilter_42 : decode cX1_parseFilter 42 = .ok (.ireturn, 1) := dk_172 (dk_at dksX1_parseFilter_1 20 rfl rfl)
theorem dX1_parseFilter_43 : decode cX1_parseFilter 43 = .ok (.astore_n 3, 1) := dk_78 (dk_at dksX1_parseFilter_1 21 rfl rfl)
theorem dX1_parseFilter_44 : decode cX1_parseFilter 44 = .ok (.aload_n 0, 1) := dk_42 (dk_at dksX1_parseFilter_1 22 rfl rfl)
theorem dX1_parseFilter_45 : decode cX1_parseFilter 45 = .ok (.iconst 0, 1) := dk_3 (dk_at dksX1_parseFilter_1 23 rfl rfl)
theorem dX1_parseFilter_46 : decode cX1_parseFilter 46 = .ok (.putfield 429, 3) := dk_181 1 173 (dk_at dksX1_parseFilter_2 0 rfl rfl)
theorem dX1_parseFilter_49 : decode cX1_parseFilter 49 = .ok (.aload_n 3, 1) := dk_45 (dk_at dksX1_parseFilter_2 3 rfl rfl)
theorem dX1_parseFilter_50 : decode cX1_parseFilter 50 = .ok (.athrow, 1) := dk_191 (dk_at dksX1_parseFilter_2 4 rfl rfl)
abbrev cX1_matchCount : ByteArray := prog_1_method_90_code
def yX1_matchCount : MethodName := ⟨RX1, "matchCount", "(I)I"⟩
def dkwX1_matchCount_2 : List UInt8 := [167, 0, 4, 3, 96, 61, 132, 3, 1, 167, 255, 217, 28, 172]
abbrev dktX1_matchCount_2 : List UInt8 := dkwX1_matchCount_2 ++ []
def dkwX1_matchCount_1 : List UInt8 := [28, 42, 180, 0, 20, 27, 50, 42, 180, 0, 58, 29, 50, 185, 1, 191, 2, 0, 153, 0, 7, 4]
abbrev dktX1_matchCount_1 : List UInt8 := dkwX1_matchCount_1 ++ dktX1_matchCount_2
def dkwX1_matchCount_0 : List UInt8 := [42, 27, 182, 1, 160, 184, 0, 179, 42, 182, 1, 12, 3, 61, 3, 62, 29, 42, 180, 1, 2, 162, 0, 37]
abbrev dktX1_matchCount_0 : List UInt8 := dkwX1_matchCount_0 ++ dktX1_matchCount_1
theorem dksX1_matchCount_0 : cX1_matchCount.data.toList.drop 0 = dktX1_matchCount_0 := by decide +kernel
theorem dksX1_matchCount_1 : cX1_matchCount.data.toList.drop 24 = dktX1_matchCount_1 := dk_seg dksX1_matchCount_0 24 rfl rfl
theorem dksX1_matchCount_2 : cX1_matchCount.data.toList.drop 46 = dktX1_matchCount_2 := dk_seg dksX1_matchCount_1 22 rfl rfl
theorem dX1_matchCount_0 : decode cX1_matchCount 0 = .ok (.aload_n 0, 1) := dk_42 (dk_at dksX1_matchCount_0 0 rfl rfl)
theorem dX1_matchCount_1 : decode cX1_matchCount 1 = .ok (.iload_n 1, 1) := dk_27 (dk_at dksX1_matchCount_0 1 rfl rfl)
theorem dX1_matchCount_2 : decode cX1_matchCount 2 = .ok (.invokevirtual 416, 3) := dk_182 1 160 (dk_at dksX1_matchCount_0 2 rfl rfl)
theorem dX1_matchCount_5 : decode cX1_matchCount 5 = .ok (.invokestatic 179, 3) := dk_184 0 179 (dk_at dksX1_matchCount_0 5 rfl rfl)
theorem dX1_matchCount_8 : decode cX1_matchCount 8 = .ok (.aload_n 0, 1) := dk_42 (dk_at dksX1_matchCount_0 8 rfl rfl)
theorem dX1_matchCount_9 : decode cX1_matchCount 9 = .ok (.invokevirtual 268, 3) := dk_182 1 12 (dk_at dksX1_matchCount_0 9 rfl rfl)
theorem dX1_matchCount_12 : decode cX1_matchCount 12 = .ok (.iconst 0, 1) := dk_3 (dk_at dksX1_matchCount_0 12 rfl rfl)
theorem dX1_matchCount_13 : decode cX1_matchCount 13 = .ok (.istore_n 2, 1) := dk_61 (dk_at dksX1_matchCount_0 13 rfl rfl)
theorem dX1_matchCount_14 : decode cX1_matchCount 14 = .ok (.iconst 0, 1) := dk_3 (dk_at dksX1_matchCount_0 14 rfl rfl)
theorem dX1_matchCount_15 : decode cX1_matchCount 15 = .ok (.istore_n 3, 1) := dk_62 (dk_at dksX1_matchCount_0 15 rfl rfl)
theorem dX1_matchCount_16 : decode cX1_matchCount 16 = .ok (.iload_n 3, 1) := dk_29 (dk_at dksX1_matchCount_0 16 rfl rfl)
theorem dX1_matchCount_17 : decode cX1_matchCount 17 = .ok (.aload_n 0, 1) := dk_42 (dk_at dksX1_matchCount_0 17 rfl rfl)
theorem dX1_matchCount_18 : decode cX1_matchCount 18 = .ok (.getfield 258, 3) := dk_180 1 2 (dk_at dksX1_matchCount_0 18 rfl rfl)
theorem dX1_matchCount_21 : decode cX1_matchCount 21 = .ok (.if_icmp .ge 37, 3) := dk_162 0 37 (dk_at dksX1_matchCount_0 21 rfl rfl)
theorem dX1_matchCount_24 : decode cX1_matchCount 24 = .ok (.iload_n 2, 1) := dk_28 (dk_at dksX1_matchCount_1 0 rfl rfl)
theorem dX1_matchCount_25 : decode cX1_matchCount 25 = .ok (.aload_n 0, 1) := dk_42 (dk_at dksX1_matchCount_1 1 rfl rfl)
theorem dX1_matchCount_26 : decode cX1_matchCount 26 = .ok (.getfield 20, 3) := dk_180 0 20 (dk_at dksX1_matchCount_1 2 rfl rfl)
theorem dX1_matchCount_29 : decode cX1_matchCount 29 = .ok (.iload_n 1, 1) := dk_27 (dk_at dksX1_matchCount_1 5 rfl rfl)
theorem dX1_matchCount_30 : decode cX1_matchCount 30 = .ok (.aaload, 1) := dk_50 (dk_at dksX1_matchCount_1 6 rfl rfl)
theorem dX1_matchCount_31 : decode cX1_matchCount 31 = .ok (.aload_n 0, 1) := dk_42 (dk_at dksX1_matchCount_1 7 rfl rfl)
theorem dX1_matchCount_32 : decode cX1_matchCount 32 = .ok (.getfield 58, 3) := dk_180 0 58 (dk_at dksX1_matchCount_1 8 rfl rfl)
theorem dX1_matchCount_35 : decode cX1_matchCount 35 = .ok (.iload_n 3, 1) := dk_29 (dk_at dksX1_matchCount_1 11 rfl rfl)
theorem dX1_matchCount_36 : decode cX1_matchCount 36 = .ok (.aaload, 1) := dk_50 (dk_at dksX1_matchCount_1 12 rfl rfl)
theorem dX1_matchCount_37 : decode cX1_matchCount 37 = .ok (.invokeinterface 447 2, 5) := by decide +kernel
theorem dX1_matchCount_42 : decode cX1_matchCount 42 = .ok (.ifCond .eq 7, 3) := dk_153 0 7 (dk_at dksX1_matchCount_1 18 rfl rfl)
theorem dX1_matchCount_45 : decode cX1_matchCount 45 = .ok (.iconst 1, 1) := dk_4 (dk_at dksX1_matchCount_1 21 rfl rfl)
theorem dX1_matchCount_46 : decode cX1_matchCount 46 = .ok (.goto 4, 3) := dk_167 0 4 (dk_at dksX1_matchCount_2 0 rfl rfl)
theorem dX1_matchCount_49 : decode cX1_matchCount 49 = .ok (.iconst 0, 1) := dk_3 (dk_at dksX1_matchCount_2 3 rfl rfl)
theorem dX1_matchCount_50 : decode cX1_matchCount 50 = .ok (.iadd, 1) := dk_96 (dk_at dksX1_matchCount_2 4 rfl rfl)
theorem dX1_matchCount_51 : decode cX1_matchCount 51 = .ok (.istore_n 2, 1) := dk_61 (dk_at dksX1_matchCount_2 5 rfl rfl)
theorem dX1_matchCount_52 : decode cX1_matchCount 52 = .ok (.iinc 3 1, 3) := dk_132 3 1 (dk_at dksX1_matchCount_2 6 rfl rfl)
theorem dX1_matchCount_55 : decode cX1_matchCount 55 = .ok (.goto (-39), 3) := dk_167 255 217 (dk_at dksX1_matchCount_2 9 rfl rfl)
theorem dX1_matchCount_58 : decode cX1_matchCount 58 = .ok (.iload_n 2, 1) := dk_28 (dk_at dksX1_matchCount_2 12 rfl rfl)
theorem dX1_matchCount_59 : decode cX1_matchCount 59 = .ok (.ireturn, 1) := dk_172 (dk_at dksX1_matchCount_2 13 rfl rfl)
abbrev cX1_accepts : ByteArray := prog_1_method_91_code
def yX1_accepts : MethodName := ⟨RX1, "accepts", "(II)Z"⟩
def dkwX1_accepts_1 : List UInt8 := [172]
abbrev dktX1_accepts_1 : List UInt8 := dkwX1_accepts_1 ++ []
def dkwX1_accepts_0 : List UInt8 := [42, 27, 182, 1, 160, 184, 0, 179, 42, 180, 0, 20, 27, 50, 42, 28, 182, 0, 125, 185, 1, 191, 2, 0]
abbrev dktX1_accepts_0 : List UInt8 := dkwX1_accepts_0 ++ dktX1_accepts_1
theorem dksX1_accepts_0 : cX1_accepts.data.toList.drop 0 = dktX1_accepts_0 := by decide +kernel
theorem dksX1_accepts_1 : cX1_accepts.data.toList.drop 24 = dktX1_accepts_1 := dk_seg dksX1_accepts_0 24 rfl rfl
theorem dX1_accepts_0 : decode cX1_accepts 0 = .ok (.aload_n 0, 1) := dk_42 (dk_at dksX1_accepts_0 0 rfl rfl)
theorem dX1_accepts_1 : decode cX1_accepts 1 = .ok (.iload_n 1, 1) := dk_27 (dk_at dksX1_accepts_0 1 rfl rfl)
theorem dX1_accepts_2 : decode cX1_accepts 2 = .ok (.invokevirtual 416, 3) := dk_182 1 160 (dk_at dksX1_accepts_0 2 rfl rfl)
theorem dX1_accepts_5 : decode cX1_accepts 5 = .ok (.invokestatic 179, 3) := dk_184 0 179 (dk_at dksX1_accepts_0 5 rfl rfl)
theorem dX1_accepts_8 : decode cX1_accepts 8 = .ok (.aload_n 0, 1) := dk_42 (dk_at dksX1_accepts_0 8 rfl rfl)
theorem dX1_accepts_9 : decode cX1_accepts 9 = .ok (.getfield 20, 3) := dk_180 0 20 (dk_at dksX1_accepts_0 9 rfl rfl)
theorem dX1_accepts_12 : decode cX1_accepts 12 = .ok (.iload_n 1, 1) := dk_27 (dk_at dksX1_accepts_0 12 rfl rfl)
theorem dX1_accepts_13 : decode cX1_accepts 13 = .ok (.aaload, 1) := dk_50 (dk_at dksX1_accepts_0 13 rfl rfl)
theorem dX1_accepts_14 : decode cX1_accepts 14 = .ok (.aload_n 0, 1) := dk_42 (dk_at dksX1_accepts_0 14 rfl rfl)
theorem dX1_accepts_15 : decode cX1_accepts 15 = .ok (.iload_n 2, 1) := dk_28 (dk_at dksX1_accepts_0 15 rfl rfl)
theorem dX1_accepts_16 : decode cX1_accepts 16 = .ok (.invokevirtual 125, 3) := dk_182 0 125 (dk_at dksX1_accepts_0 16 rfl rfl)
theorem dX1_accepts_19 : decode cX1_accepts 19 = .ok (.invokeinterface 447 2, 5) := by decide +kernel
theorem dX1_accepts_24 : decode cX1_accepts 24 = .ok (.ireturn, 1) := dk_172 (dk_at dksX1_accepts_1 0 rfl rfl)
abbrev cX1_open : ByteArray := prog_1_method_94_code
def yX1_open : MethodName := ⟨RX1, "open", "(II)I"⟩
def dkwX1_open_2 : List UInt8 := [180, 0, 20, 28, 50, 181, 1, 204, 42, 45, 182, 1, 208, 184, 1, 34, 172]
abbrev dktX1_open_2 : List UInt8 := dkwX1_open_2 ++ []
def dkwX1_open_1 : List UInt8 := [184, 0, 179, 42, 180, 0, 32, 27, 50, 78, 45, 4, 181, 1, 193, 45, 3, 181, 1, 198, 45, 42]
abbrev dktX1_open_1 : List UInt8 := dkwX1_open_1 ++ dktX1_open_2
def dkwX1_open_0 : List UInt8 := [27, 3, 6, 184, 0, 116, 153, 0, 15, 42, 28, 182, 1, 160, 153, 0, 7, 4, 167, 0, 4, 3]
abbrev dktX1_open_0 : List UInt8 := dkwX1_open_0 ++ dktX1_open_1
theorem dksX1_open_0 : cX1_open.data.toList.drop 0 = dktX1_open_0 := by decide +kernel
theorem dksX1_open_1 : cX1_open.data.toList.drop 22 = dktX1_open_1 := dk_seg dksX1_open_0 22 rfl rfl
theorem dksX1_open_2 : cX1_open.data.toList.drop 44 = dktX1_open_2 := dk_seg dksX1_open_1 22 rfl rfl
theorem dX1_open_0 : decode cX1_open 0 = .ok (.iload_n 1, 1) := dk_27 (dk_at dksX1_open_0 0 rfl rfl)
theorem dX1_open_1 : decode cX1_open 1 = .ok (.iconst 0, 1) := dk_3 (dk_at dksX1_open_0 1 rfl rfl)
theorem dX1_open_2 : decode cX1_open 2 = .ok (.iconst 3, 1) := dk_6 (dk_at dksX1_open_0 2 rfl rfl)
theorem dX1_open_3 : decode cX1_open 3 = .ok (.invokestatic 116, 3) := dk_184 0 116 (dk_at dksX1_open_0 3 rfl rfl)
theorem dX1_open_6 : decode cX1_open 6 = .ok (.ifCond .eq 15, 3) := dk_153 0 15 (dk_at dksX1_open_0 6 rfl rfl)
theorem dX1_open_9 : decode cX1_open 9 = .ok (.aload_n 0, 1) := dk_42 (dk_at dksX1_open_0 9 rfl rfl)
theorem dX1_open_10 : decode cX1_open 10 = .ok (.iload_n 2, 1) := dk_28 (dk_at dksX1_open_0 10 rfl rfl)
theorem dX1_open_11 : decode cX1_open 11 = .ok (.invokevirtual 416, 3) := dk_182 1 160 (dk_at dksX1_open_0 11 rfl rfl)
theorem dX1_open_14 : decode cX1_open 14 = .ok (.ifCond .eq 7, 3) := dk_153 0 7 (dk_at dksX1_open_0 14 rfl rfl)
theorem dX1_open_17 : decode cX1_open 17 = .ok (.iconst 1, 1) := dk_4 (dk_at dksX1_open_0 17 rfl rfl)
theorem dX1_open_18 : decode cX1_open 18 = .ok (.goto 4, 3) := dk_167 0 4 (dk_at dksX1_open_0 18 rfl rfl)
theorem dX1_open_21 : decode cX1_open 21 = .ok (.iconst 0, 1) := dk_3 (dk_at dksX1_open_0 21 rfl rfl)
theorem dX1_open_22 : decode cX1_open 22 = .ok (.invokestatic 179, 3) := dk_184 0 179 (dk_at dksX1_open_1 0 rfl rfl)
theorem dX1_open_25 : decode cX1_open 25 = .ok (.aload_n 0, 1) := dk_42 (dk_at dksX1_open_1 3 rfl rfl)
theorem dX1_open_26 : decode cX1_open 26 = .ok (.getfield 32, 3) := dk_180 0 32 (dk_at dksX1_open_1 4 rfl rfl)
theorem dX1_open_29 : decode cX1_open 29 = .ok (.iload_n 1, 1) := dk_27 (dk_at dksX1_open_1 7 rfl rfl)
theorem dX1_open_30 : decode cX1_open 30 = .ok (.aaload, 1) := dk_50 (dk_at dksX1_open_1 8 rfl rfl)
theorem dX1_open_31 : decode cX1_open 31 = .ok (.astore_n 3, 1) := dk_78 (dk_at dksX1_open_1 9 rfl rfl)
theorem dX1_open_32 : decode cX1_open 32 = .ok (.aload_n 3, 1) := dk_45 (dk_at dksX1_open_1 10 rfl rfl)
theorem dX1_open_33 : decode cX1_open 33 = .ok (.iconst 1, 1) := dk_4 (dk_at dksX1_open_1 11 rfl rfl)
theorem dX1_open_34 : decode cX1_open 34 = .ok (.putfield 449, 3) := dk_181 1 193 (dk_at dksX1_open_1 12 rfl rfl)
theorem dX1_open_37 : decode cX1_open 37 = .ok (.aload_n 3, 1) := dk_45 (dk_at dksX1_open_1 15 rfl rfl)
theorem dX1_open_38 : decode cX1_open 38 = .ok (.iconst 0, 1) := dk_3 (dk_at dksX1_open_1 16 rfl rfl)
theorem dX1_open_39 : decode cX1_open 39 = .ok (.putfield 454, 3) := dk_181 1 198 (dk_at dksX1_open_1 17 rfl rfl)
theorem dX1_open_42 : decode cX1_open 42 = .ok (.aload_n 3, 1) := dk_45 (dk_at dksX1_open_1 20 rfl rfl)
theorem dX1_open_43 : decode cX1_open 43 = .ok (.aload_n 0, 1) := dk_42 (dk_at dksX1_open_1 21 rfl rfl)
theorem dX1_open_44 : decode cX1_open 44 = .ok (.getfield 20, 3) := dk_180 0 20 (dk_at dksX1_open_2 0 rfl rfl)
theorem dX1_open_47 : decode cX1_open 47 = .ok (.iload_n 2, 1) := dk_28 (dk_at dksX1_open_2 3 rfl rfl)
theorem dX1_open_48 : decode cX1_open 48 = .ok (.aaload, 1) := dk_50 (dk_at dksX1_open_2 4 rfl rfl)
theorem dX1_open_49 : decode cX1_open 49 = .ok (.putfield 460, 3) := dk_181 1 204 (dk_at dksX1_open_2 5 rfl rfl)
theorem dX1_open_52 : decode cX1_open 52 = .ok (.aload_n 0, 1) := dk_42 (dk_at dksX1_open_2 8 rfl rfl)
theorem dX1_open_53 : decode cX1_open 53 = .ok (.aload_n 3, 1) := dk_45 (dk_at dksX1_open_2 9 rfl rfl)
theorem dX1_open_54 : decode cX1_open 54 = .ok (.invokevirtual 464, 3) := dk_182 1 208 (dk_at dksX1_open_2 10 rfl rfl)
theorem dX1_open_57 : decode cX1_open 57 = .ok (.invokestatic 290, 3) := dk_184 1 34 (dk_at dksX1_open_2 13 rfl rfl)
theorem dX1_open_60 : decode cX1_open 60 = .ok (.ireturn, 1) := dk_172 (dk_at dksX1_open_2 16 rfl rfl)
abbrev cX1_following : ByteArray := prog_1_method_93_code
def yX1_following : MethodName := ⟨RX1, "following", "(LIntervalTree$Cursor;)LIntervalTree$Node;"⟩
def dkwX1_following_3 : List UInt8 := [44, 180, 0, 110, 44, 180, 0, 231, 4, 96, 184, 1, 96, 77, 167, 255, 217, 44, 176]
abbrev dktX1_following_3 : List UInt8 := dkwX1_following_3 ++ []
def dkwX1_following_2 : List UInt8 := [198, 0, 41, 43, 180, 1, 204, 44, 185, 1, 191, 2, 0, 154, 0, 28, 42, 180, 0, 173, 44, 180, 0, 107]
abbrev dktX1_following_2 : List UInt8 := dkwX1_following_2 ++ dktX1_following_3
def dkwX1_following_1 : List UInt8 := [96, 184, 1, 96, 167, 0, 17, 42, 180, 0, 173, 17, 252, 24, 19, 1, 102, 2, 184, 1, 96, 77, 44]
abbrev dktX1_following_1 : List UInt8 := dkwX1_following_1 ++ dktX1_following_2
def dkwX1_following_0 : List UInt8 := [43, 180, 1, 198, 153, 0, 27, 42, 180, 0, 173, 43, 180, 1, 201, 43, 180, 1, 202, 43, 180, 1, 203, 4]
abbrev dktX1_following_0 : List UInt8 := dkwX1_following_0 ++ dktX1_following_1
theorem dksX1_following_0 : cX1_following.data.toList.drop 0 = dktX1_following_0 := by decide +kernel
theorem dksX1_following_1 : cX1_following.data.toList.drop 24 = dktX1_following_1 := dk_seg dksX1_following_0 24 rfl rfl
theorem dksX1_following_2 : cX1_following.data.toList.drop 47 = dktX1_following_2 := dk_seg dksX1_following_1 23 rfl rfl
theorem dksX1_following_3 : cX1_following.data.toList.drop 71 = dktX1_following_3 := dk_seg dksX1_following_2 24 rfl rfl
theorem dX1_following_0 : decode cX1_following 0 = .ok (.aload_n 1, 1) := dk_43 (dk_at dksX1_following_0 0 rfl rfl)
theorem dX1_following_1 : decode cX1_following 1 = .ok (.getfield 454, 3) := dk_180 1 198 (dk_at dksX1_following_0 1 rfl rfl)
theorem dX1_following_4 : decode cX1_following 4 = .ok (.ifCond .eq 27, 3) := dk_153 0 27 (dk_at dksX1_following_0 4 rfl rfl)
theorem dX1_following_7 : decode cX1_following 7 = .ok (.aload_n 0, 1) := dk_42 (dk_at dksX1_following_0 7 rfl rfl)
theorem dX1_following_8 : decode cX1_following 8 = .ok (.getfield 173, 3) := dk_180 0 173 (dk_at dksX1_following_0 8 rfl rfl)
theorem dX1_following_11 : decode cX1_following 11 = .ok (.aload_n 1, 1) := dk_43 (dk_at dksX1_following_0 11 rfl rfl)
theorem dX1_following_12 : decode cX1_following 12 = .ok (.getfield 457, 3) := dk_180 1 201 (dk_at dksX1_following_0 12 rfl rfl)
theorem dX1_following_15 : decode cX1_following 15 = .ok (.aload_n 1, 1) := dk_43 (dk_at dksX1_following_0 15 rfl rfl)
theorem dX1_following_16 : decode cX1_following 16 = .ok (.getfield 458, 3) := dk_180 1 202 (dk_at dksX1_following_0 16 rfl rfl)
theorem dX1_following_19 : decode cX1_following 19 = .ok (.aload_n 1, 1) := dk_43 (dk_at dksX1_following_0 19 rfl rfl)
theorem dX1_following_20 : decode cX1_following 20 = .ok (.getfield 459, 3) := dk_180 1 203 (dk_at dksX1_following_0 20 rfl rfl)
theorem dX1_following_23 : decode cX1_following 23 = .ok (.iconst 1, 1) := dk_4 (dk_at dksX1_following_0 23 rfl rfl)
theorem dX1_following_24 : decode cX1_following 24 = .ok (.iadd, 1) := dk_96 (dk_at dksX1_following_1 0 rfl rfl)
theorem dX1_following_25 : decode cX1_following 25 = .ok (.invokestatic 352, 3) := dk_184 1 96 (dk_at dksX1_following_1 1 rfl rfl)
theorem dX1_following_28 : decode cX1_following 28 = .ok (.goto 17, 3) := dk_167 0 17 (dk_at dksX1_following_1 4 rfl rfl)
theorem dX1_following_31 : decode cX1_following 31 = .ok (.aload_n 0, 1) := dk_42 (dk_at dksX1_following_1 7 rfl rfl)
theorem dX1_following_32 : decode cX1_following 32 = .ok (.getfield 173, 3) := dk_180 0 173 (dk_at dksX1_following_1 8 rfl rfl)
theorem dX1_following_35 : decode cX1_following 35 = .ok (.sipush (-1000), 3) := dk_17 252 24 (dk_at dksX1_following_1 11 rfl rfl)
theorem dX1_following_38 : decode cX1_following 38 = .ok (.ldc_w 358, 3) := dk_19 1 102 (dk_at dksX1_following_1 14 rfl rfl)
theorem dX1_following_41 : decode cX1_following 41 = .ok (.iconst (-1), 1) := dk_2 (dk_at dksX1_following_1 17 rfl rfl)
theorem dX1_following_42 : decode cX1_following 42 = .ok (.invokestatic 352, 3) := dk_184 1 96 (dk_at dksX1_following_1 18 rfl rfl)
theorem dX1_following_45 : decode cX1_following 45 = .ok (.astore_n 2, 1) := dk_77 (dk_at dksX1_following_1 21 rfl rfl)
theorem dX1_following_46 : decode cX1_following 46 = .ok (.aload_n 2, 1) := dk_44 (dk_at dksX1_following_1 22 rfl rfl)
theorem dX1_following_47 : decode cX1_following 47 = .ok (.ifnull 41, 3) := dk_198 0 41 (dk_at dksX1_following_2 0 rfl rfl)
theorem dX1_following_50 : decode cX1_following 50 = .ok (.aload_n 1, 1) := dk_43 (dk_at dksX1_following_2 3 rfl rfl)
theorem dX1_following_51 : decode cX1_following 51 = .ok (.getfield 460, 3) := dk_180 1 204 (dk_at dksX1_following_2 4 rfl rfl)
theorem dX1_following_54 : decode cX1_following 54 = .ok (.aload_n 2, 1) := dk_44 (dk_at dksX1_following_2 7 rfl rfl)
theorem dX1_following_55 : decode cX1_following 55 = .ok (.invokeinterface 447 2, 5) := by decide +kernel
theorem dX1_following_60 : decode cX1_following 60 = .ok (.ifCond .ne 28, 3) := dk_154 0 28 (dk_at dksX1_following_2 13 rfl rfl)
theorem dX1_following_63 : decode cX1_following 63 = .ok (.aload_n 0, 1) := dk_42 (dk_at dksX1_following_2 16 rfl rfl)
theorem dX1_following_64 : decode cX1_following 64 = .ok (.getfield 173, 3) := dk_180 0 173 (dk_at dksX1_following_2 17 rfl rfl)
theorem dX1_following_67 : decode cX1_following 67 = .ok (.aload_n 2, 1) := dk_44 (dk_at dksX1_following_2 20 rfl rfl)
theorem dX1_following_68 : decode cX1_following 68 = .ok (.getfield 107, 3) := dk_180 0 107 (dk_at dksX1_following_2 21 rfl rfl)
theorem dX1_following_71 : decode cX1_following 71 = .ok (.aload_n 2, 1) := dk_44 (dk_at dksX1_following_3 0 rfl rfl)
theorem dX1_following_72 : decode cX1_following 72 = .ok (.getfield 110, 3) := dk_180 0 110 (dk_at dksX1_following_3 1 rfl rfl)
theorem dX1_following_75 : decode cX1_following 75 = .ok (.aload_n 2, 1) := dk_44 (dk_at dksX1_following_3 4 rfl rfl)
theorem dX1_following_76 : decode cX1_following 76 = .ok (.getfield 231, 3) := dk_180 0 231 (dk_at dksX1_following_3 5 rfl rfl)
theorem dX1_following_79 : decode cX1_following 79 = .ok (.iconst 1, 1) := dk_4 (dk_at dksX1_following_3 8 rfl rfl)
theorem dX1_following_80 : decode cX1_following 80 = .ok (.iadd, 1) := dk_96 (dk_at dksX1_following_3 9 rfl rfl)
theorem dX1_following_81 : decode cX1_following 81 = .ok (.invokestatic 352, 3) := dk_184 1 96 (dk_at dksX1_following_3 10 rfl rfl)
theorem dX1_following_84 : decode cX1_following 84 = .ok (.astore_n 2, 1) := dk_77 (dk_at dksX1_following_3 13 rfl rfl)
theorem dX1_following_85 : decode cX1_following 85 = .ok (.goto (-39), 3) := dk_167 255 217 (dk_at dksX1_following_3 14 rfl rfl)
theorem dX1_following_88 : decode cX1_following 88 = .ok (.aload_n 2, 1) := dk_44 (dk_at dksX1_following_3 17 rfl rfl)
theorem dX1_following_89 : decode cX1_following 89 = .ok (.areturn, 1) := dk_176 (dk_at dksX1_following_3 18 rfl rfl)
abbrev cX1_hasNext : ByteArray := prog_1_method_95_code
def yX1_hasNext : MethodName := ⟨RX1, "hasNext", "(I)Z"⟩
def dkwX1_hasNext_0 : List UInt8 := [42, 42, 27, 182, 1, 212, 182, 1, 208, 198, 0, 7, 4, 167, 0, 4, 3, 172]
abbrev dktX1_hasNext_0 : List UInt8 := dkwX1_hasNext_0 ++ []
theorem dksX1_hasNext_0 : cX1_hasNext.data.toList.drop 0 = dktX1_hasNext_0 := by decide +kernel
theorem dX1_hasNext_0 : decode cX1_hasNext 0 = .ok (.aload_n 0, 1) := dk_42 (dk_at dksX1_hasNext_0 0 rfl rfl)
theorem dX1_hasNext_1 : decode cX1_hasNext 1 = .ok (.aload_n 0, 1) := dk_42 (dk_at dksX1_hasNext_0 1 rfl rfl)
theorem dX1_hasNext_2 : decode cX1_hasNext 2 = .ok (.iload_n 1, 1) := dk_27 (dk_at dksX1_hasNext_0 2 rfl rfl)
theorem dX1_hasNext_3 : decode cX1_hasNext 3 = .ok (.invokevirtual 468, 3) := dk_182 1 212 (dk_at dksX1_hasNext_0 3 rfl rfl)
theorem dX1_hasNext_6 : decode cX1_hasNext 6 = .ok (.invokevirtual 464, 3) := dk_182 1 208 (dk_at dksX1_hasNext_0 6 rfl rfl)
theorem dX1_hasNext_9 : decode cX1_hasNext 9 = .ok (.ifnull 7, 3) := dk_198 0 7 (dk_at dksX1_hasNext_0 9 rfl rfl)
theorem dX1_hasNext_12 : decode cX1_hasNext 12 = .ok (.iconst 1, 1) := dk_4 (dk_at dksX1_hasNext_0 12 rfl rfl)
theorem dX1_hasNext_13 : decode cX1_hasNext 13 = .ok (.goto 4, 3) := dk_167 0 4 (dk_at dksX1_hasNext_0 13 rfl rfl)
theorem dX1_hasNext_16 : decode cX1_hasNext 16 = .ok (.iconst 0, 1) := dk_3 (dk_at dksX1_hasNext_0 16 rfl rfl)
theorem dX1_hasNext_17 : decode cX1_hasNext 17 = .ok (.ireturn, 1) := dk_172 (dk_at dksX1_hasNext_0 17 rfl rfl)
abbrev cX1_cursor : ByteArray := prog_1_method_92_code
def yX1_cursor : MethodName := ⟨RX1, "cursor", "(I)LIntervalTree$Cursor;"⟩
def dkwX1_cursor_1 : List UInt8 := [89, 19, 1, 196, 183, 0, 220, 191, 42, 180, 0, 32, 27, 50, 176]
abbrev dktX1_cursor_1 : List UInt8 := dkwX1_cursor_1 ++ []
def dkwX1_cursor_0 : List UInt8 := [27, 3, 6, 184, 0, 116, 184, 0, 179, 42, 180, 0, 32, 27, 50, 180, 1, 193, 154, 0, 14, 187, 0, 216]
abbrev dktX1_cursor_0 : List UInt8 := dkwX1_cursor_0 ++ dktX1_cursor_1
theorem dksX1_cursor_0 : cX1_cursor.data.toList.drop 0 = dktX1_cursor_0 := by decide +kernel
theorem dksX1_cursor_1 : cX1_cursor.data.toList.drop 24 = dktX1_cursor_1 := dk_seg dksX1_cursor_0 24 rfl rfl
theorem dX1_cursor_0 : decode cX1_cursor 0 = .ok (.iload_n 1, 1) := dk_27 (dk_at dksX1_cursor_0 0 rfl rfl)
theorem dX1_cursor_1 : decode cX1_cursor 1 = .ok (.iconst 0, 1) := dk_3 (dk_at dksX1_cursor_0 1 rfl rfl)
theorem dX1_cursor_2 : decode cX1_cursor 2 = .ok (.iconst 3, 1) := dk_6 (dk_at dksX1_cursor_0 2 rfl rfl)
theorem dX1_cursor_3 : decode cX1_cursor 3 = .ok (.invokestatic 116, 3) := dk_184 0 116 (dk_at dksX1_cursor_0 3 rfl rfl)
theorem dX1_cursor_6 : decode cX1_cursor 6 = .ok (.invokestatic 179, 3) := dk_184 0 179 (dk_at dksX1_cursor_0 6 rfl rfl)
theorem dX1_cursor_9 : decode cX1_cursor 9 = .ok (.aload_n 0, 1) := dk_42 (dk_at dksX1_cursor_0 9 rfl rfl)
theorem dX1_cursor_10 : decode cX1_cursor 10 = .ok (.getfield 32, 3) := dk_180 0 32 (dk_at dksX1_cursor_0 10 rfl rfl)
theorem dX1_cursor_13 : decode cX1_cursor 13 = .ok (.iload_n 1, 1) := dk_27 (dk_at dksX1_cursor_0 13 rfl rfl)
theorem dX1_cursor_14 : decode cX1_cursor 14 = .ok (.aaload, 1) := dk_50 (dk_at dksX1_cursor_0 14 rfl rfl)
theorem dX1_cursor_15 : decode cX1_cursor 15 = .ok (.getfield 449, 3) := dk_180 1 193 (dk_at dksX1_cursor_0 15 rfl rfl)
theorem dX1_cursor_18 : decode cX1_cursor 18 = .ok (.ifCond .ne 14, 3) := dk_154 0 14 (dk_at dksX1_cursor_0 18 rfl rfl)
theorem dX1_cursor_21 : decode cX1_cursor 21 = .ok (.new 216, 3) := dk_187 0 216 (dk_at dksX1_cursor_0 21 rfl rfl)
theorem dX1_cursor_24 : decode cX1_cursor 24 = .ok (.dup, 1) := dk_89 (dk_at dksX1_cursor_1 0 rfl rfl)
theorem dX1_cursor_25 : decode cX1_cursor 25 = .ok (.ldc_w 452, 3) := dk_19 1 196 (dk_at dksX1_cursor_1 1 rfl rfl)
theorem dX1_cursor_28 : decode cX1_cursor 28 = .ok (.invokespecial 220, 3) := dk_183 0 220 (dk_at dksX1_cursor_1 4 rfl rfl)
theorem dX1_cursor_31 : decode cX1_cursor 31 = .ok (.athrow, 1) := dk_191 (dk_at dksX1_cursor_1 7 rfl rfl)
theorem dX1_cursor_32 : decode cX1_cursor 32 = .ok (.aload_n 0, 1) := dk_42 (dk_at dksX1_cursor_1 8 rfl rfl)
theorem dX1_cursor_33 : decode cX1_cursor 33 = .ok (.getfield 32, 3) := dk_180 0 32 (dk_at dksX1_cursor_1 9 rfl rfl)
theorem dX1_cursor_36 : decode cX1_cursor 36 = .ok (.iload_n 1, 1) := dk_27 (dk_at dksX1_cursor_1 12 rfl rfl)
theorem dX1_cursor_37 : decode cX1_cursor 37 = .ok (.aaload, 1) := dk_50 (dk_at dksX1_cursor_1 13 rfl rfl)
theorem dX1_cursor_38 : decode cX1_cursor 38 = .ok (.areturn, 1) := dk_176 (dk_at dksX1_cursor_1 14 rfl rfl)
abbrev cX1_next : ByteArray := prog_1_method_96_code
def yX1_next : MethodName := ⟨RX1, "next", "(I)I"⟩
def dkwX1_next_2 : List UInt8 := [181, 1, 202, 44, 45, 180, 0, 231, 181, 1, 203, 45, 180, 0, 231, 172]
abbrev dktX1_next_2 : List UInt8 := dkwX1_next_2 ++ []
def dkwX1_next_1 : List UInt8 := [183, 0, 124, 191, 44, 4, 181, 1, 198, 44, 45, 180, 0, 107, 181, 1, 201, 44, 45, 180, 0, 110]
abbrev dktX1_next_1 : List UInt8 := dkwX1_next_1 ++ dktX1_next_2
def dkwX1_next_0 : List UInt8 := [42, 27, 182, 1, 212, 77, 42, 44, 182, 1, 208, 78, 45, 199, 0, 14, 187, 0, 120, 89, 19, 1, 216]
abbrev dktX1_next_0 : List UInt8 := dkwX1_next_0 ++ dktX1_next_1
theorem dksX1_next_0 : cX1_next.data.toList.drop 0 = dktX1_next_0 := by decide +kernel
theorem dksX1_next_1 : cX1_next.data.toList.drop 23 = dktX1_next_1 := dk_seg dksX1_next_0 23 rfl rfl
theorem dksX1_next_2 : cX1_next.data.toList.drop 45 = dktX1_next_2 := dk_seg dksX1_next_1 22 rfl rfl
theorem dX1_next_0 : decode cX1_next 0 = .ok (.aload_n 0, 1) := dk_42 (dk_at dksX1_next_0 0 rfl rfl)
theorem dX1_next_1 : decode cX1_next 1 = .ok (.iload_n 1, 1) := dk_27 (dk_at dksX1_next_0 1 rfl rfl)
theorem dX1_next_2 : decode cX1_next 2 = .ok (.invokevirtual 468, 3) := dk_182 1 212 (dk_at dksX1_next_0 2 rfl rfl)
theorem dX1_next_5 : decode cX1_next 5 = .ok (.astore_n 2, 1) := dk_77 (dk_at dksX1_next_0 5 rfl rfl)
theorem dX1_next_6 : decode cX1_next 6 = .ok (.aload_n 0, 1) := dk_42 (dk_at dksX1_next_0 6 rfl rfl)
theorem dX1_next_7 : decode cX1_next 7 = .ok (.aload_n 2, 1) := dk_44 (dk_at dksX1_next_0 7 rfl rfl)
theorem dX1_next_8 : decode cX1_next 8 = .ok (.invokevirtual 464, 3) := dk_182 1 208 (dk_at dksX1_next_0 8 rfl rfl)
theorem dX1_next_11 : decode cX1_next 11 = .ok (.astore_n 3, 1) := dk_78 (dk_at dksX1_next_0 11 rfl rfl)
theorem dX1_next_12 : decode cX1_next 12 = .ok (.aload_n 3, 1) := dk_45 (dk_at dksX1_next_0 12 rfl rfl)
theorem dX1_next_13 : decode cX1_next 13 = .ok (.ifnonnull 14, 3) := dk_199 0 14 (dk_at dksX1_next_0 13 rfl rfl)
theorem dX1_next_16 : decode cX1_next 16 = .ok (.new 120, 3) := dk_187 0 120 (dk_at dksX1_next_0 16 rfl rfl)
theorem dX1_next_19 : decode cX1_next 19 = .ok (.dup, 1) := dk_89 (dk_at dksX1_next_0 19 rfl rfl)
theorem dX1_next_20 : decode cX1_next 20 = .ok (.ldc_w 472, 3) := dk_19 1 216 (dk_at dksX1_next_0 20 rfl rfl)
theorem dX1_next_23 : decode cX1_next 23 = .ok (.invokespecial 124, 3) := dk_183 0 124 (dk_at dksX1_next_1 0 rfl rfl)
theorem dX1_next_26 : decode cX1_next 26 = .ok (.athrow, 1) := dk_191 (dk_at dksX1_next_1 3 rfl rfl)
theorem dX1_next_27 : decode cX1_next 27 = .ok (.aload_n 2, 1) := dk_44 (dk_at dksX1_next_1 4 rfl rfl)
theorem dX1_next_28 : decode cX1_next 28 = .ok (.iconst 1, 1) := dk_4 (dk_at dksX1_next_1 5 rfl rfl)
theorem dX1_next_29 : decode cX1_next 29 = .ok (.putfield 454, 3) := dk_181 1 198 (dk_at dksX1_next_1 6 rfl rfl)
theorem dX1_next_32 : decode cX1_next 32 = .ok (.aload_n 2, 1) := dk_44 (dk_at dksX1_next_1 9 rfl rfl)
theorem dX1_next_33 : decode cX1_next 33 = .ok (.aload_n 3, 1) := dk_45 (dk_at dksX1_next_1 10 rfl rfl)
theorem dX1_next_34 : decode cX1_next 34 = .ok (.getfield 107, 3) := dk_180 0 107 (dk_at dksX1_next_1 11 rfl rfl)
theorem dX1_next_37 : decode cX1_next 37 = .ok (.putfield 457, 3) := dk_181 1 201 (dk_at dksX1_next_1 14 rfl rfl)
theorem dX1_next_40 : decode cX1_next 40 = .ok (.aload_n 2, 1) := dk_44 (dk_at dksX1_next_1 17 rfl rfl)
theorem dX1_next_41 : decode cX1_next 41 = .ok (.aload_n 3, 1) := dk_45 (dk_at dksX1_next_1 18 rfl rfl)
theorem dX1_next_42 : decode cX1_next 42 = .ok (.getfield 110, 3) := dk_180 0 110 (dk_at dksX1_next_1 19 rfl rfl)
theorem dX1_next_45 : decode cX1_next 45 = .ok (.putfield 458, 3) := dk_181 1 202 (dk_at dksX1_next_2 0 rfl rfl)
theorem dX1_next_48 : decode cX1_next 48 = .ok (.aload_n 2, 1) := dk_44 (dk_at dksX1_next_2 3 rfl rfl)
theorem dX1_next_49 : decode cX1_next 49 = .ok (.aload_n 3, 1) := dk_45 (dk_at dksX1_next_2 4 rfl rfl)
theorem dX1_next_50 : decode cX1_next 50 = .ok (.getfield 231, 3) := dk_180 0 231 (dk_at dksX1_next_2 5 rfl rfl)
theorem dX1_next_53 : decode cX1_next 53 = .ok (.putfield 459, 3) := dk_181 1 203 (dk_at dksX1_next_2 8 rfl rfl)
theorem dX1_next_56 : decode cX1_next 56 = .ok (.aload_n 3, 1) := dk_45 (dk_at dksX1_next_2 11 rfl rfl)
theorem dX1_next_57 : decode cX1_next 57 = .ok (.getfield 231, 3) := dk_180 0 231 (dk_at dksX1_next_2 12 rfl rfl)
theorem dX1_next_60 : decode cX1_next 60 = .ok (.ireturn, 1) := dk_172 (dk_at dksX1_next_2 15 rfl rfl)
abbrev cX1_removeCurrent : ByteArray := prog_1_method_97_code
def yX1_removeCurrent : MethodName := ⟨RX1, "removeCurrent", "(I)I"⟩
def dkwX1_removeCurrent_2 : List UInt8 := [19, 1, 218, 183, 0, 220, 191, 42, 42, 180, 0, 14, 44, 180, 1, 203, 50, 182, 0, 241, 172]
abbrev dktX1_removeCurrent_2 : List UInt8 := dkwX1_removeCurrent_2 ++ []
def dkwX1_removeCurrent_1 : List UInt8 := [198, 0, 18, 42, 180, 0, 14, 44, 180, 1, 203, 50, 180, 0, 129, 153, 0, 14, 187, 0, 216, 89]
abbrev dktX1_removeCurrent_1 : List UInt8 := dkwX1_removeCurrent_1 ++ dktX1_removeCurrent_2
def dkwX1_removeCurrent_0 : List UInt8 := [42, 27, 182, 1, 212, 77, 44, 180, 1, 198, 153, 0, 30, 42, 180, 0, 14, 44, 180, 1, 203, 50]
abbrev dktX1_removeCurrent_0 : List UInt8 := dkwX1_removeCurrent_0 ++ dktX1_removeCurrent_1
theorem dksX1_removeCurrent_0 : cX1_removeCurrent.data.toList.drop 0 = dktX1_removeCurrent_0 := by decide +kernel
theorem dksX1_removeCurrent_1 : cX1_removeCurrent.data.toList.drop 22 = dktX1_removeCurrent_1 := dk_seg dksX1_removeCurrent_0 22 rfl rfl
theorem dksX1_removeCurrent_2 : cX1_removeCurrent.data.toList.drop 44 = dktX1_removeCurrent_2 := dk_seg dksX1_removeCurrent_1 22 rfl rfl
theorem dX1_removeCurrent_0 : decode cX1_removeCurrent 0 = .ok (.aload_n 0, 1) := dk_42 (dk_at dksX1_removeCurrent_0 0 rfl rfl)
theorem dX1_removeCurrent_1 : decode cX1_removeCurrent 1 = .ok (.iload_n 1, 1) := dk_27 (dk_at dksX1_removeCurrent_0 1 rfl rfl)
theorem dX1_removeCurrent_2 : decode cX1_removeCurrent 2 = .ok (.invokevirtual 468, 3) := dk_182 1 212 (dk_at dksX1_removeCurrent_0 2 rfl rfl)
theorem dX1_removeCurrent_5 : decode cX1_removeCurrent 5 = .ok (.astore_n 2, 1) := dk_77 (dk_at dksX1_removeCurrent_0 5 rfl rfl)
theorem dX1_removeCurrent_6 : decode cX1_removeCurrent 6 = .ok (.aload_n 2, 1) := dk_44 (dk_at dksX1_removeCurrent_0 6 rfl rfl)
theorem dX1_removeCurrent_7 : decode cX1_removeCurrent 7 = .ok (.getfield 454, 3) := dk_180 1 198 (dk_at dksX1_removeCurrent_0 7 rfl rfl)
theorem dX1_removeCurrent_10 : decode cX1_removeCurrent 10 = .ok (.ifCond .eq 30, 3) := dk_153 0 30 (dk_at dksX1_removeCurrent_0 10 rfl rfl)
theorem dX1_removeCurrent_13 : decode cX1_removeCurrent 13 = .ok (.aload_n 0, 1) := dk_42 (dk_at dksX1_removeCurrent_0 13 rfl rfl)
theorem dX1_removeCurrent_14 : decode cX1_removeCurrent 14 = .ok (.getfield 14, 3) := dk_180 0 14 (dk_at dksX1_removeCurrent_0 14 rfl rfl)
theorem dX1_removeCurrent_17 : decode cX1_removeCurrent 17 = .ok (.aload_n 2, 1) := dk_44 (dk_at dksX1_removeCurrent_0 17 rfl rfl)
theorem dX1_removeCurrent_18 : decode cX1_removeCurrent 18 = .ok (.getfield 459, 3) := dk_180 1 203 (dk_at dksX1_removeCurrent_0 18 rfl rfl)
theorem dX1_removeCurrent_21 : decode cX1_removeCurrent 21 = .ok (.aaload, 1) := dk_50 (dk_at dksX1_removeCurrent_0 21 rfl rfl)
theorem dX1_removeCurrent_22 : decode cX1_removeCurrent 22 = .ok (.ifnull 18, 3) := dk_198 0 18 (dk_at dksX1_removeCurrent_1 0 rfl rfl)
theorem dX1_removeCurrent_25 : decode cX1_removeCurrent 25 = .ok (.aload_n 0, 1) := dk_42 (dk_at dksX1_removeCurrent_1 3 rfl rfl)
theorem dX1_removeCurrent_26 : decode cX1_removeCurrent 26 = .ok (.getfield 14, 3) := dk_180 0 14 (dk_at dksX1_removeCurrent_1 4 rfl rfl)
theorem dX1_removeCurrent_29 : decode cX1_removeCurrent 29 = .ok (.aload_n 2, 1) := dk_44 (dk_at dksX1_removeCurrent_1 7 rfl rfl)
theorem dX1_removeCurrent_30 : decode cX1_removeCurrent 30 = .ok (.getfield 459, 3) := dk_180 1 203 (dk_at dksX1_removeCurrent_1 8 rfl rfl)
theorem dX1_removeCurrent_33 : decode cX1_removeCurrent 33 = .ok (.aaload, 1) := dk_50 (dk_at dksX1_removeCurrent_1 11 rfl rfl)
theorem dX1_removeCurrent_34 : decode cX1_removeCurrent 34 = .ok (.getfield 129, 3) := dk_180 0 129 (dk_at dksX1_removeCurrent_1 12 rfl rfl)
theorem dX1_removeCurrent_37 : decode cX1_removeCurrent 37 = .ok (.ifCond .eq 14, 3) := dk_153 0 14 (dk_at dksX1_removeCurrent_1 15 rfl rfl)
theorem dX1_removeCurrent_40 : decode cX1_removeCurrent 40 = .ok (.new 216, 3) := dk_187 0 216 (dk_at dksX1_removeCurrent_1 18 rfl rfl)
theorem dX1_removeCurrent_43 : decode cX1_removeCurrent 43 = .ok (.dup, 1) := dk_89 (dk_at dksX1_removeCurrent_1 21 rfl rfl)
theorem dX1_removeCurrent_44 : decode cX1_removeCurrent 44 = .ok (.ldc_w 474, 3) := dk_19 1 218 (dk_at dksX1_removeCurrent_2 0 rfl rfl)
theorem dX1_removeCurrent_47 : decode cX1_removeCurrent 47 = .ok (.invokespecial 220, 3) := dk_183 0 220 (dk_at dksX1_removeCurrent_2 3 rfl rfl)
theorem dX1_removeCurrent_50 : decode cX1_removeCurrent 50 = .ok (.athrow, 1) := dk_191 (dk_at dksX1_removeCurrent_2 6 rfl rfl)
theorem dX1_removeCurrent_51 : decode cX1_removeCurrent 51 = .ok (.aload_n 0, 1) := dk_42 (dk_at dksX1_removeCurrent_2 7 rfl rfl)
theorem dX1_removeCurrent_52 : decode cX1_removeCurrent 52 = .ok (.aload_n 0, 1) := dk_42 (dk_at dksX1_removeCurrent_2 8 rfl rfl)
theorem dX1_removeCurrent_53 : decode cX1_removeCurrent 53 = .ok (.getfield 14, 3) := dk_180 0 14 (dk_at dksX1_removeCurrent_2 9 rfl rfl)
theorem dX1_removeCurrent_56 : decode cX1_removeCurrent 56 = .ok (.aload_n 2, 1) := dk_44 (dk_at dksX1_removeCurrent_2 12 rfl rfl)
theorem dX1_removeCurrent_57 : decode cX1_removeCurrent 57 = .ok (.getfield 459, 3) := dk_180 1 203 (dk_at dksX1_removeCurrent_2 13 rfl rfl)
theorem dX1_removeCurrent_60 : decode cX1_removeCurrent 60 = .ok (.aaload, 1) := dk_50 (dk_at dksX1_removeCurrent_2 16 rfl rfl)
theorem dX1_removeCurrent_61 : decode cX1_removeCurrent 61 = .ok (.invokevirtual 241, 3) := dk_182 0 241 (dk_at dksX1_removeCurrent_2 17 rfl rfl)
theorem dX1_removeCurrent_64 : decode cX1_removeCurrent 64 = .ok (.ireturn, 1) := dk_172 (dk_at dksX1_removeCurrent_2 20 rfl rfl)
abbrev cX1_load : ByteArray := prog_1_method_101_code
def yX1_load : MethodName := ⟨RX1, "load", "()I"⟩
def dkwX1_load_5 : List UInt8 := [167, 255, 238, 42, 182, 1, 103, 172]
abbrev dktX1_load_5 : List UInt8 := dkwX1_load_5 ++ []
def dkwX1_load_4 : List UInt8 := [181, 0, 173, 3, 60, 27, 7, 162, 0, 19, 42, 180, 0, 32, 27, 50, 3, 181, 1, 193, 132, 1, 1]
abbrev dktX1_load_4 : List UInt8 := dkwX1_load_4 ++ dktX1_load_5
def dkwX1_load_3 : List UInt8 := [180, 1, 230, 181, 1, 16, 42, 42, 180, 1, 233, 181, 1, 19, 42, 42, 42, 180, 1, 224, 1, 182, 1, 236]
abbrev dktX1_load_3 : List UInt8 := dkwX1_load_3 ++ dktX1_load_4
def dkwX1_load_2 : List UInt8 := [42, 3, 181, 0, 213, 42, 42, 180, 0, 94, 181, 0, 113, 42, 42, 180, 1, 227, 181, 0, 97, 42, 42]
abbrev dktX1_load_2 : List UInt8 := dkwX1_load_2 ++ dktX1_load_3
def dkwX1_load_1 : List UInt8 := [180, 0, 113, 162, 0, 16, 42, 180, 0, 14, 27, 1, 83, 132, 1, 1, 167, 255, 238, 42, 3, 181, 0, 210]
abbrev dktX1_load_1 : List UInt8 := dkwX1_load_1 ++ dktX1_load_2
def dkwX1_load_0 : List UInt8 := [42, 180, 0, 94, 156, 0, 14, 187, 0, 216, 89, 19, 1, 240, 183, 0, 220, 191, 3, 60, 27, 42]
abbrev dktX1_load_0 : List UInt8 := dkwX1_load_0 ++ dktX1_load_1
theorem dksX1_load_0 : cX1_load.data.toList.drop 0 = dktX1_load_0 := by decide +kernel
theorem dksX1_load_1 : cX1_load.data.toList.drop 22 = dktX1_load_1 := dk_seg dksX1_load_0 22 rfl rfl
theorem dksX1_load_2 : cX1_load.data.toList.drop 46 = dktX1_load_2 := dk_seg dksX1_load_1 24 rfl rfl
theorem dksX1_load_3 : cX1_load.data.toList.drop 69 = dktX1_load_3 := dk_seg dksX1_load_2 23 rfl rfl
theorem dksX1_load_4 : cX1_load.data.toList.drop 93 = dktX1_load_4 := dk_seg dksX1_load_3 24 rfl rfl
theorem dksX1_load_5 : cX1_load.data.toList.drop 116 = dktX1_load_5 := dk_seg dksX1_load_4 23 rfl rfl
theorem dX1_load_0 : decode cX1_load 0 = .ok (.aload_n 0, 1) := dk_42 (dk_at dksX1_load_0 0 rfl rfl)
theorem dX1_load_1 : decode cX1_load 1 = .ok (.getfield 94, 3) := dk_180 0 94 (dk_at dksX1_load_0 1 rfl rfl)
theorem dX1_load_4 : decode cX1_load 4 = .ok (.ifCond .ge 14, 3) := dk_156 0 14 (dk_at dksX1_load_0 4 rfl rfl)
theorem dX1_load_7 : decode cX1_load 7 = .ok (.new 216, 3) := dk_187 0 216 (dk_at dksX1_load_0 7 rfl rfl)
theorem dX1_load_10 : decode cX1_load 10 = .ok (.dup, 1) := dk_89 (dk_at dksX1_load_0 10 rfl rfl)
theorem dX1_load_11 : decode cX1_load 11 = .ok (.ldc_w 496, 3) := dk_19 1 240 (dk_at dksX1_load_0 11 rfl rfl)
theorem dX1_load_14 : decode cX1_load 14 = .ok (.invokespecial 220, 3) := dk_183 0 220 (dk_at dksX1_load_0 14 rfl rfl)
theorem dX1_load_17 : decode cX1_load 17 = .ok (.athrow, 1) := dk_191 (dk_at dksX1_load_0 17 rfl rfl)
theorem dX1_load_18 : decode cX1_load 18 = .ok (.iconst 0, 1) := dk_3 (dk_at dksX1_load_0 18 rfl rfl)
theorem dX1_load_19 : decode cX1_load 19 = .ok (.istore_n 1, 1) := dk_60 (dk_at dksX1_load_0 19 rfl rfl)
theorem dX1_load_20 : decode cX1_load 20 = .ok (.iload_n 1, 1) := dk_27 (dk_at dksX1_load_0 20 rfl rfl)
theorem dX1_load_21 : decode cX1_load 21 = .ok (.aload_n 0, 1) := dk_42 (dk_at dksX1_load_0 21 rfl rfl)
theorem dX1_load_22 : decode cX1_load 22 = .ok (.getfield 113, 3) := dk_180 0 113 (dk_at dksX1_load_1 0 rfl rfl)
theorem dX1_load_25 : decode cX1_load 25 = .ok (.if_icmp .ge 16, 3) := dk_162 0 16 (dk_at dksX1_load_1 3 rfl rfl)
theorem dX1_load_28 : decode cX1_load 28 = .ok (.aload_n 0, 1) := dk_42 (dk_at dksX1_load_1 6 rfl rfl)
theorem dX1_load_29 : decode cX1_load 29 = .ok (.getfield 14, 3) := dk_180 0 14 (dk_at dksX1_load_1 7 rfl rfl)
theorem dX1_load_32 : decode cX1_load 32 = .ok (.iload_n 1, 1) := dk_27 (dk_at dksX1_load_1 10 rfl rfl)
theorem dX1_load_33 : decode cX1_load 33 = .ok (.aconst_null, 1) := dk_1 (dk_at dksX1_load_1 11 rfl rfl)
theorem dX1_load_34 : decode cX1_load 34 = .ok (.aastore, 1) := dk_83 (dk_at dksX1_load_1 12 rfl rfl)
theorem dX1_load_35 : decode cX1_load 35 = .ok (.iinc 1 1, 3) := dk_132 1 1 (dk_at dksX1_load_1 13 rfl rfl)
theorem dX1_load_38 : decode cX1_load 38 = .ok (.goto (-18), 3) := dk_167 255 238 (dk_at dksX1_load_1 16 rfl rfl)
theorem dX1_load_41 : decode cX1_load 41 = .ok (.aload_n 0, 1) := dk_42 (dk_at dksX1_load_1 19 rfl rfl)
theorem dX1_load_42 : decode cX1_load 42 = .ok (.iconst 0, 1) := dk_3 (dk_at dksX1_load_1 20 rfl rfl)
theorem dX1_load_43 : decode cX1_load 43 = .ok (.putfield 210, 3) := dk_181 0 210 (dk_at dksX1_load_1 21 rfl rfl)
theorem dX1_load_46 : decode cX1_load 46 = .ok (.aload_n 0, 1) := dk_42 (dk_at dksX1_load_2 0 rfl rfl)
theorem dX1_load_47 : decode cX1_load 47 = .ok (.iconst 0, 1) := dk_3 (dk_at dksX1_load_2 1 rfl rfl)
theorem dX1_load_48 : decode cX1_load 48 = .ok (.putfield 213, 3) := dk_181 0 213 (dk_at dksX1_load_2 2 rfl rfl)
theorem dX1_load_51 : decode cX1_load 51 = .ok (.aload_n 0, 1) := dk_42 (dk_at dksX1_load_2 5 rfl rfl)
theorem dX1_load_52 : decode cX1_load 52 = .ok (.aload_n 0, 1) := dk_42 (dk_at dksX1_load_2 6 rfl rfl)
theorem dX1_load_53 : decode cX1_load 53 = .ok (.getfield 94, 3) := dk_180 0 94 (dk_at dksX1_load_2 7 rfl rfl)
theorem dX1_load_56 : decode cX1_load 56 = .ok (.putfield 113, 3) := dk_181 0 113 (dk_at dksX1_load_2 10 rfl rfl)
theorem dX1_load_59 : decode cX1_load 59 = .ok (.aload_n 0, 1) := dk_42 (dk_at dksX1_load_2 13 rfl rfl)
theorem dX1_load_60 : decode cX1_load 60 = .ok (.aload_n 0, 1) := dk_42 (dk_at dksX1_load_2 14 rfl rfl)
theorem dX1_load_61 : decode cX1_load 61 = .ok (.getfield 483, 3) := dk_180 1 227 (dk_at dksX1_load_2 15 rfl rfl)
theorem dX1_load_64 : decode cX1_load 64 = .ok (.putfield 97, 3) := dk_181 0 97 (dk_at dksX1_load_2 18 rfl rfl)
theorem dX1_load_67 : decode cX1_load 67 = .ok (.aload_n 0, 1) := dk_42 (dk_at dksX1_load_2 21 rfl rfl)
theorem dX1_load_68 : decode cX1_load 68 = .ok (.aload_n 0, 1) := dk_42 (dk_at dksX1_load_2 22 rfl rfl)
theorem dX1_load_69 : decode cX1_load 69 = .ok (.getfield 486, 3) := dk_180 1 230 (dk_at dksX1_load_3 0 rfl rfl)
theorem dX1_load_72 : decode cX1_load 72 = .ok (.putfield 272, 3) := dk_181 1 16 (dk_at dksX1_load_3 3 rfl rfl)
theorem dX1_load_75 : decode cX1_load 75 = .ok (.aload_n 0, 1) := dk_42 (dk_at dksX1_load_3 6 rfl rfl)
theorem dX1_load_76 : decode cX1_load 76 = .ok (.aload_n 0, 1) := dk_42 (dk_at dksX1_load_3 7 rfl rfl)
theorem dX1_load_77 : decode cX1_load 77 = .ok (.getfield 489, 3) := dk_180 1 233 (dk_at dksX1_load_3 8 rfl rfl)
theorem dX1_load_80 : decode cX1_load 80 = .ok (.putfield 275, 3) := dk_181 1 19 (dk_at dksX1_load_3 11 rfl rfl)
theorem dX1_load_83 : decode cX1_load 83 = .ok (.aload_n 0, 1) := dk_42 (dk_at dksX1_load_3 14 rfl rfl)
theorem dX1_load_84 : decode cX1_load 84 = .ok (.aload_n 0, 1) := dk_42 (dk_at dksX1_load_3 15 rfl rfl)
theorem dX1_load_85 : decode cX1_load 85 = .ok (.aload_n 0, 1) := dk_42 (dk_at dksX1_load_3 16 rfl rfl)
theorem dX1_load_86 : decode cX1_load 86 = .ok (.getfield 480, 3) := dk_180 1 224 (dk_at dksX1_load_3 17 rfl rfl)
theorem dX1_load_89 : decode cX1_load 89 = .ok (.aconst_null, 1) := dk_1 (dk_at dksX1_load_3 20 rfl rfl)
theorem dX1_load_90 : decode cX1_load 90 = .ok (.invokevirtual 492, 3) := dk_182 1 236 (dk_at dksX1_load_3 21 rfl rfl)
theorem dX1_load_93 : decode cX1_load 93 = .ok (.putfield 173, 3) := dk_181 0 173 (dk_at dksX1_load_4 0 rfl rfl)
theorem dX1_load_96 : decode cX1_load 96 = .ok (.iconst 0, 1) := dk_3 (dk_at dksX1_load_4 3 rfl rfl)
theorem dX1_load_97 : decode cX1_load 97 = .ok (.istore_n 1, 1) := dk_60 (dk_at dksX1_load_4 4 rfl rfl)
theorem dX1_load_98 : decode cX1_load 98 = .ok (.iload_n 1, 1) := dk_27 (dk_at dksX1_load_4 5 rfl rfl)
theorem dX1_load_99 : decode cX1_load 99 = .ok (.iconst 4, 1) := dk_7 (dk_at dksX1_load_4 6 rfl rfl)
theorem dX1_load_100 : decode cX1_load 100 = .ok (.if_icmp .ge 19, 3) := dk_162 0 19 (dk_at dksX1_load_4 7 rfl rfl)
theorem dX1_load_103 : decode cX1_load 103 = .ok (.aload_n 0, 1) := dk_42 (dk_at dksX1_load_4 10 rfl rfl)
theorem dX1_load_104 : decode cX1_load 104 = .ok (.getfield 32, 3) := dk_180 0 32 (dk_at dksX1_load_4 11 rfl rfl)
theorem dX1_load_107 : decode cX1_load 107 = .ok (.iload_n 1, 1) := dk_27 (dk_at dksX1_load_4 14 rfl rfl)
theorem dX1_load_108 : decode cX1_load 108 = .ok (.aaload, 1) := dk_50 (dk_at dksX1_load_4 15 rfl rfl)
theorem dX1_load_109 : decode cX1_load 109 = .ok (.iconst 0, 1) := dk_3 (dk_at dksX1_load_4 16 rfl rfl)
theorem dX1_load_110 : decode cX1_load 110 = .ok (.putfield 449, 3) := dk_181 1 193 (dk_at dksX1_load_4 17 rfl rfl)
theorem dX1_load_113 : decode cX1_load 113 = .ok (.iinc 1 1, 3) := dk_132 1 1 (dk_at dksX1_load_4 20 rfl rfl)
theorem dX1_load_116 : decode cX1_load 116 = .ok (.goto (-18), 3) := dk_167 255 238 (dk_at dksX1_load_5 0 rfl rfl)
theorem dX1_load_119 : decode cX1_load 119 = .ok (.aload_n 0, 1) := dk_42 (dk_at dksX1_load_5 3 rfl rfl)
theorem dX1_load_120 : decode cX1_load 120 = .ok (.invokevirtual 359, 3) := dk_182 1 103 (dk_at dksX1_load_5 4 rfl rfl)
theorem dX1_load_123 : decode cX1_load 123 = .ok (.ireturn, 1) := dk_172 (dk_at dksX1_load_5 7 rfl rfl)
abbrev cX1_loadNode : ByteArray := prog_1_method_100_code
def yX1_loadNode : MethodName := ⟨RX1, "loadNode", "(ILIntervalTree$Node;)LIntervalTree$Node;"⟩
def dkwX1_loadNode_5 : List UInt8 := [180, 0, 129, 153, 0, 7, 4, 167, 0, 4, 3, 96, 181, 0, 213, 45, 176]
abbrev dktX1_loadNode_5 : List UInt8 := dkwX1_loadNode_5 ++ []
def dkwX1_loadNode_4 : List UInt8 := [180, 0, 14, 27, 45, 83, 42, 89, 180, 0, 210, 4, 96, 181, 0, 210, 42, 89, 180, 0, 213, 45]
abbrev dktX1_loadNode_4 : List UInt8 := dkwX1_loadNode_4 ++ dktX1_loadNode_5
def dkwX1_loadNode_3 : List UInt8 := [181, 0, 163, 45, 42, 42, 180, 0, 84, 27, 46, 45, 182, 1, 236, 181, 0, 170, 45, 182, 0, 151, 42]
abbrev dktX1_loadNode_3 : List UInt8 := dkwX1_loadNode_3 ++ dktX1_loadNode_4
def dkwX1_loadNode_2 : List UInt8 := [45, 42, 180, 0, 91, 27, 51, 181, 0, 129, 45, 42, 42, 180, 0, 81, 27, 46, 45, 182, 1, 236]
abbrev dktX1_loadNode_2 : List UInt8 := dkwX1_loadNode_2 ++ dktX1_loadNode_3
def dkwX1_loadNode_1 : List UInt8 := [180, 0, 78, 27, 46, 183, 0, 225, 78, 45, 44, 181, 0, 137, 45, 42, 180, 0, 87, 27, 51, 181, 0, 191]
abbrev dktX1_loadNode_1 : List UInt8 := dkwX1_loadNode_1 ++ dktX1_loadNode_2
def dkwX1_loadNode_0 : List UInt8 := [27, 156, 0, 5, 1, 176, 187, 0, 12, 89, 27, 42, 180, 0, 72, 27, 46, 42, 180, 0, 75, 27, 46, 42]
abbrev dktX1_loadNode_0 : List UInt8 := dkwX1_loadNode_0 ++ dktX1_loadNode_1
theorem dksX1_loadNode_0 : cX1_loadNode.data.toList.drop 0 = dktX1_loadNode_0 := by decide +kernel
theorem dksX1_loadNode_1 : cX1_loadNode.data.toList.drop 24 = dktX1_loadNode_1 := dk_seg dksX1_loadNode_0 24 rfl rfl
theorem dksX1_loadNode_2 : cX1_loadNode.data.toList.drop 48 = dktX1_loadNode_2 := dk_seg dksX1_loadNode_1 24 rfl rfl
theorem dksX1_loadNode_3 : cX1_loadNode.data.toList.drop 70 = dktX1_loadNode_3 := dk_seg dksX1_loadNode_2 22 rfl rfl
theorem dksX1_loadNode_4 : cX1_loadNode.data.toList.drop 93 = dktX1_loadNode_4 := dk_seg dksX1_loadNode_3 23 rfl rfl
theorem dksX1_loadNode_5 : cX1_loadNode.data.toList.drop 115 = dktX1_loadNode_5 := dk_seg dksX1_loadNode_4 22 rfl rfl
theorem dX1_loadNode_0 : decode cX1_loadNode 0 = .ok (.iload_n 1, 1) := dk_27 (dk_at dksX1_loadNode_0 0 rfl rfl)
theorem dX1_loadNode_1 : decode cX1_loadNode 1 = .ok (.ifCond .ge 5, 3) := dk_156 0 5 (dk_at dksX1_loadNode_0 1 rfl rfl)
theorem dX1_loadNode_4 : decode cX1_loadNode 4 = .ok (.aconst_null, 1) := dk_1 (dk_at dksX1_loadNode_0 4 rfl rfl)
theorem dX1_loadNode_5 : decode cX1_loadNode 5 = .ok (.areturn, 1) := dk_176 (dk_at dksX1_loadNode_0 5 rfl rfl)
theorem dX1_loadNode_6 : decode cX1_loadNode 6 = .ok (.new 12, 3) := dk_187 0 12 (dk_at dksX1_loadNode_0 6 rfl rfl)
theorem dX1_loadNode_9 : decode cX1_loadNode 9 = .ok (.dup, 1) := dk_89 (dk_at dksX1_loadNode_0 9 rfl rfl)
theorem dX1_loadNode_10 : decode cX1_loadNode 10 = .ok (.iload_n 1, 1) := dk_27 (dk_at dksX1_loadNode_0 10 rfl rfl)
theorem dX1_loadNode_11 : decode cX1_loadNode 11 = .ok (.aload_n 0, 1) := dk_42 (dk_at dksX1_loadNode_0 11 rfl rfl)
theorem dX1_loadNode_12 : decode cX1_loadNode 12 = .ok (.getfield 72, 3) := dk_180 0 72 (dk_at dksX1_loadNode_0 12 rfl rfl)
theorem dX1_loadNode_15 : decode cX1_loadNode 15 = .ok (.iload_n 1, 1) := dk_27 (dk_at dksX1_loadNode_0 15 rfl rfl)
theorem dX1_loadNode_16 : decode cX1_loadNode 16 = .ok (.iaload, 1) := dk_46 (dk_at dksX1_loadNode_0 16 rfl rfl)
theorem dX1_loadNode_17 : decode cX1_loadNode 17 = .ok (.aload_n 0, 1) := dk_42 (dk_at dksX1_loadNode_0 17 rfl rfl)
theorem dX1_loadNode_18 : decode cX1_loadNode 18 = .ok (.getfield 75, 3) := dk_180 0 75 (dk_at dksX1_loadNode_0 18 rfl rfl)
theorem dX1_loadNode_21 : decode cX1_loadNode 21 = .ok (.iload_n 1, 1) := dk_27 (dk_at dksX1_loadNode_0 21 rfl rfl)
theorem dX1_loadNode_22 : decode cX1_loadNode 22 = .ok (.iaload, 1) := dk_46 (dk_at dksX1_loadNode_0 22 rfl rfl)
theorem dX1_loadNode_23 : decode cX1_loadNode 23 = .ok (.aload_n 0, 1) := dk_42 (dk_at dksX1_loadNode_0 23 rfl rfl)
theorem dX1_loadNode_24 : decode cX1_loadNode 24 = .ok (.getfield 78, 3) := dk_180 0 78 (dk_at dksX1_loadNode_1 0 rfl rfl)
theorem dX1_loadNode_27 : decode cX1_loadNode 27 = .ok (.iload_n 1, 1) := dk_27 (dk_at dksX1_loadNode_1 3 rfl rfl)
theorem dX1_loadNode_28 : decode cX1_loadNode 28 = .ok (.iaload, 1) := dk_46 (dk_at dksX1_loadNode_1 4 rfl rfl)
theorem dX1_loadNode_29 : decode cX1_loadNode 29 = .ok (.invokespecial 225, 3) := dk_183 0 225 (dk_at dksX1_loadNode_1 5 rfl rfl)
theorem dX1_loadNode_32 : decode cX1_loadNode 32 = .ok (.astore_n 3, 1) := dk_78 (dk_at dksX1_loadNode_1 8 rfl rfl)
theorem dX1_loadNode_33 : decode cX1_loadNode 33 = .ok (.aload_n 3, 1) := dk_45 (dk_at dksX1_loadNode_1 9 rfl rfl)
theorem dX1_loadNode_34 : decode cX1_loadNode 34 = .ok (.aload_n 2, 1) := dk_44 (dk_at dksX1_loadNode_1 10 rfl rfl)
theorem dX1_loadNode_35 : decode cX1_loadNode 35 = .ok (.putfield 137, 3) := dk_181 0 137 (dk_at dksX1_loadNode_1 11 rfl rfl)
theorem dX1_loadNode_38 : decode cX1_loadNode 38 = .ok (.aload_n 3, 1) := dk_45 (dk_at dksX1_loadNode_1 14 rfl rfl)
theorem dX1_loadNode_39 : decode cX1_loadNode 39 = .ok (.aload_n 0, 1) := dk_42 (dk_at dksX1_loadNode_1 15 rfl rfl)
theorem dX1_loadNode_40 : decode cX1_loadNode 40 = .ok (.getfield 87, 3) := dk_180 0 87 (dk_at dksX1_loadNode_1 16 rfl rfl)
theorem dX1_loadNode_43 : decode cX1_loadNode 43 = .ok (.iload_n 1, 1) := dk_27 (dk_at dksX1_loadNode_1 19 rfl rfl)
theorem dX1_loadNode_44 : decode cX1_loadNode 44 = .ok (.baload, 1) := dk_51 (dk_at dksX1_loadNode_1 20 rfl rfl)
theorem dX1_loadNode_45 : decode cX1_loadNode 45 = .ok (.putfield 191, 3) := dk_181 0 191 (dk_at dksX1_loadNode_1 21 rfl rfl)
theorem dX1_loadNode_48 : decode cX1_loadNode 48 = .ok (.aload_n 3, 1) := dk_45 (dk_at dksX1_loadNode_2 0 rfl rfl)
theorem dX1_loadNode_49 : decode cX1_loadNode 49 = .ok (.aload_n 0, 1) := dk_42 (dk_at dksX1_loadNode_2 1 rfl rfl)
theorem dX1_loadNode_50 : decode cX1_loadNode 50 = .ok (.getfield 91, 3) := dk_180 0 91 (dk_at dksX1_loadNode_2 2 rfl rfl)
theorem dX1_loadNode_53 : decode cX1_loadNode 53 = .ok (.iload_n 1, 1) := dk_27 (dk_at dksX1_loadNode_2 5 rfl rfl)
theorem dX1_loadNode_54 : decode cX1_loadNode 54 = .ok (.baload, 1) := dk_51 (dk_at dksX1_loadNode_2 6 rfl rfl)
theorem dX1_loadNode_55 : decode cX1_loadNode 55 = .ok (.putfield 129, 3) := dk_181 0 129 (dk_at dksX1_loadNode_2 7 rfl rfl)
theorem dX1_loadNode_58 : decode cX1_loadNode 58 = .ok (.aload_n 3, 1) := dk_45 (dk_at dksX1_loadNode_2 10 rfl rfl)
theorem dX1_loadNode_59 : decode cX1_loadNode 59 = .ok (.aload_n 0, 1) := dk_42 (dk_at dksX1_loadNode_2 11 rfl rfl)
theorem dX1_loadNode_60 : decode cX1_loadNode 60 = .ok (.aload_n 0, 1) := dk_42 (dk_at dksX1_loadNode_2 12 rfl rfl)
theorem dX1_loadNode_61 : decode cX1_loadNode 61 = .ok (.getfield 81, 3) := dk_180 0 81 (dk_at dksX1_loadNode_2 13 rfl rfl)
theorem dX1_loadNode_64 : decode cX1_loadNode 64 = .ok (.iload_n 1, 1) := dk_27 (dk_at dksX1_loadNode_2 16 rfl rfl)
theorem dX1_loadNode_65 : decode cX1_loadNode 65 = .ok (.iaload, 1) := dk_46 (dk_at dksX1_loadNode_2 17 rfl rfl)
theorem dX1_loadNode_66 : decode cX1_loadNode 66 = .ok (.aload_n 3, 1) := dk_45 (dk_at dksX1_loadNode_2 18 rfl rfl)
theorem dX1_loadNode_67 : decode cX1_loadNode 67 = .ok (.invokevirtual 492, 3) := dk_182 1 236 (dk_at dksX1_loadNode_2 19 rfl rfl)
theorem dX1_loadNode_70 : decode cX1_loadNode 70 = .ok (.putfield 163, 3) := dk_181 0 163 (dk_at dksX1_loadNode_3 0 rfl rfl)
theorem dX1_loadNode_73 : decode cX1_loadNode 73 = .ok (.aload_n 3, 1) := dk_45 (dk_at dksX1_loadNode_3 3 rfl rfl)
theorem dX1_loadNode_74 : decode cX1_loadNode 74 = .ok (.aload_n 0, 1) := dk_42 (dk_at dksX1_loadNode_3 4 rfl rfl)
theorem dX1_loadNode_75 : decode cX1_loadNode 75 = .ok (.aload_n 0, 1) := dk_42 (dk_at dksX1_loadNode_3 5 rfl rfl)
theorem dX1_loadNode_76 : decode cX1_loadNode 76 = .ok (.getfield 84, 3) := dk_180 0 84 (dk_at dksX1_loadNode_3 6 rfl rfl)
theorem dX1_loadNode_79 : decode cX1_loadNode 79 = .ok (.iload_n 1, 1) := dk_27 (dk_at dksX1_loadNode_3 9 rfl rfl)
theorem dX1_loadNode_80 : decode cX1_loadNode 80 = .ok (.iaload, 1) := dk_46 (dk_at dksX1_loadNode_3 10 rfl rfl)
theorem dX1_loadNode_81 : decode cX1_loadNode 81 = .ok (.aload_n 3, 1) := dk_45 (dk_at dksX1_loadNode_3 11 rfl rfl)
theorem dX1_loadNode_82 : decode cX1_loadNode 82 = .ok (.invokevirtual 492, 3) := dk_182 1 236 (dk_at dksX1_loadNode_3 12 rfl rfl)
theorem dX1_loadNode_85 : decode cX1_loadNode 85 = .ok (.putfield 170, 3) := dk_181 0 170 (dk_at dksX1_loadNode_3 15 rfl rfl)
theorem dX1_loadNode_88 : decode cX1_loadNode 88 = .ok (.aload_n 3, 1) := dk_45 (dk_at dksX1_loadNode_3 18 rfl rfl)
theorem dX1_loadNode_89 : decode cX1_loadNode 89 = .ok (.invokevirtual 151, 3) := dk_182 0 151 (dk_at dksX1_loadNode_3 19 rfl rfl)
theorem dX1_loadNode_92 : decode cX1_loadNode 92 = .ok (.aload_n 0, 1) := dk_42 (dk_at dksX1_loadNode_3 22 rfl rfl)
theorem dX1_loadNode_93 : decode cX1_loadNode 93 = .ok (.getfield 14, 3) := dk_180 0 14 (dk_at dksX1_loadNode_4 0 rfl rfl)
theorem dX1_loadNode_96 : decode cX1_loadNode 96 = .ok (.iload_n 1, 1) := dk_27 (dk_at dksX1_loadNode_4 3 rfl rfl)
theorem dX1_loadNode_97 : decode cX1_loadNode 97 = .ok (.aload_n 3, 1) := dk_45 (dk_at dksX1_loadNode_4 4 rfl rfl)
theorem dX1_loadNode_98 : decode cX1_loadNode 98 = .ok (.aastore, 1) := dk_83 (dk_at dksX1_loadNode_4 5 rfl rfl)
theorem dX1_loadNode_99 : decode cX1_loadNode 99 = .ok (.aload_n 0, 1) := dk_42 (dk_at dksX1_loadNode_4 6 rfl rfl)
theorem dX1_loadNode_100 : decode cX1_loadNode 100 = .ok (.dup, 1) := dk_89 (dk_at dksX1_loadNode_4 7 rfl rfl)
theorem dX1_loadNode_101 : decode cX1_loadNode 101 = .ok (.getfield 210, 3) := dk_180 0 210 (dk_at dksX1_loadNode_4 8 rfl rfl)
theorem dX1_loadNode_104 : decode cX1_loadNode 104 = .ok (.iconst 1, 1) := dk_4 (dk_at dksX1_loadNode_4 11 rfl rfl)
theorem dX1_loadNode_105 : decode cX1_loadNode 105 = .ok (.iadd, 1) := dk_96 (dk_at dksX1_loadNode_4 12 rfl rfl)
theorem dX1_loadNode_106 : decode cX1_loadNode 106 = .ok (.putfield 210, 3) := dk_181 0 210 (dk_at dksX1_loadNode_4 13 rfl rfl)
theorem dX1_loadNode_109 : decode cX1_loadNode 109 = .ok (.aload_n 0, 1) := dk_42 (dk_at dksX1_loadNode_4 16 rfl rfl)
theorem dX1_loadNode_110 : decode cX1_loadNode 110 = .ok (.dup, 1) := dk_89 (dk_at dksX1_loadNode_4 17 rfl rfl)
theorem dX1_loadNode_111 : decode cX1_loadNode 111 = .ok (.getfield 213, 3) := dk_180 0 213 (dk_at dksX1_loadNode_4 18 rfl rfl)
theorem dX1_loadNode_114 : decode cX1_loadNode 114 = .ok (.aload_n 3, 1) := dk_45 (dk_at dksX1_loadNode_4 21 rfl rfl)
theorem dX1_loadNode_115 : decode cX1_loadNode 115 = .ok (.getfield 129, 3) := dk_180 0 129 (dk_at dksX1_loadNode_5 0 rfl rfl)
theorem dX1_loadNode_118 : decode cX1_loadNode 118 = .ok (.ifCond .eq 7, 3) := dk_153 0 7 (dk_at dksX1_loadNode_5 3 rfl rfl)
theorem dX1_loadNode_121 : decode cX1_loadNode 121 = .ok (.iconst 1, 1) := dk_4 (dk_at dksX1_loadNode_5 6 rfl rfl)
theorem dX1_loadNode_122 : decode cX1_loadNode 122 = .ok (.goto 4, 3) := dk_167 0 4 (dk_at dksX1_loadNode_5 7 rfl rfl)
theorem dX1_loadNode_125 : decode cX1_loadNode 125 = .ok (.iconst 0, 1) := dk_3 (dk_at dksX1_loadNode_5 10 rfl rfl)
theorem dX1_loadNode_126 : decode cX1_loadNode 126 = .ok (.iadd, 1) := dk_96 (dk_at dksX1_loadNode_5 11 rfl rfl)
theorem dX1_loadNode_127 : decode cX1_loadNode 127 = .ok (.putfield 213, 3) := dk_181 0 213 (dk_at dksX1_loadNode_5 12 rfl rfl)
theorem dX1_loadNode_130 : decode cX1_loadNode 130 = .ok (.aload_n 3, 1) := dk_45 (dk_at dksX1_loadNode_5 15 rfl rfl)
theorem dX1_loadNode_131 : decode cX1_loadNode 131 = .ok (.areturn, 1) := dk_176 (dk_at dksX1_loadNode_5 16 rfl rfl)
theorem q93 : (Jvm.Cond.initialized "IntervalTree") ∈ lw_all := lw_g (lw_at lw_m1 1 rfl) rfl
theorem q114 : (Jvm.Cond.instantiable "IntervalTree" (34 : Nat)) ∈ lw_all := lw_g (lw_at lw_m1 22 rfl) rfl
theorem q116 : (Jvm.Cond.instanceMethod ({ cls := "IntervalTree", name := "<init>", desc := "()V" } : Jvm.MethodName)) ∈ lw_all := lw_g (lw_at lw_m1 24 rfl) rfl
theorem q117 : (Jvm.Cond.code ({ cls := "IntervalTree", name := "<init>", desc := "()V" } : Jvm.MethodName) prog_1_method_1_code (1 : Nat) (Option.none : Option Jvm.ClassFile.FieldType)) ∈ lw_all := lw_g (lw_at lw_m1 25 rfl) rfl
theorem q118 : (Jvm.Cond.methodLink "IntervalTree" (1 : Nat) ({ cls := "IntervalTree", name := "<init>", desc := "(I)V" } : Jvm.MethodName)) ∈ lw_all := lw_g (lw_at lw_m1 26 rfl) rfl
theorem q119 : (Jvm.Cond.instanceMethod ({ cls := "IntervalTree", name := "<init>", desc := "(I)V" } : Jvm.MethodName)) ∈ lw_all := lw_g (lw_at lw_m1 27 rfl) rfl
theorem q120 : (Jvm.Cond.code ({ cls := "IntervalTree", name := "<init>", desc := "(I)V" } : Jvm.MethodName) prog_1_method_2_code (3 : Nat) (Option.none : Option Jvm.ClassFile.FieldType)) ∈ lw_all := lw_g (lw_at lw_m1 28 rfl) rfl
theorem q121 : (Jvm.Cond.methodLink "IntervalTree" (7 : Nat) ({ cls := "java/lang/Object", name := "<init>", desc := "()V" } : Jvm.MethodName)) ∈ lw_all := lw_g (lw_at lw_m1 29 rfl) rfl
theorem q124 : (Jvm.Cond.classLink "IntervalTree" (12 : Nat) "IntervalTree$Node") ∈ lw_all := lw_g (lw_at lw_m1 32 rfl) rfl
theorem q126 : (Jvm.Cond.classLink "IntervalTree" (18 : Nat) "IntervalTree$Filter") ∈ lw_all := lw_g (lw_at lw_m1 34 rfl) rfl
theorem q128 : (Jvm.Cond.classLink "IntervalTree" (24 : Nat) "IntervalTree$Property") ∈ lw_all := lw_g (lw_at lw_m1 36 rfl) rfl
theorem q130 : (Jvm.Cond.classLink "IntervalTree" (30 : Nat) "IntervalTree$Cursor") ∈ lw_all := lw_g (lw_at lw_m1 38 rfl) rfl
theorem q132 : (Jvm.Cond.static ({ cls := "IntervalTree", name := "lambda$new$0", desc := "(LIntervalTree$Node;)I" } : Jvm.MethodName)) ∈ lw_all := lw_g (lw_at lw_m1 40 rfl) rfl
theorem q133 : (Jvm.Cond.code ({ cls := "IntervalTree", name := "lambda$new$0", desc := "(LIntervalTree$Node;)I" } : Jvm.MethodName) prog_1_method_114_code (1 : Nat) (Option.some Jvm.ClassFile.FieldType.int)) ∈ lw_all := lw_g (lw_at lw_m1 41 rfl) rfl
theorem q134 : (Jvm.Cond.static ({ cls := "IntervalTree", name := "lambda$new$1", desc := "(LIntervalTree$Node;)I" } : Jvm.MethodName)) ∈ lw_all := lw_g (lw_at lw_m1 42 rfl) rfl
theorem q135 : (Jvm.Cond.code ({ cls := "IntervalTree", name := "lambda$new$1", desc := "(LIntervalTree$Node;)I" } : Jvm.MethodName) prog_1_method_113_code (1 : Nat) (Option.some Jvm.ClassFile.FieldType.int)) ∈ lw_all := lw_g (lw_at lw_m1 43 rfl) rfl
theorem q136 : (Jvm.Cond.privateMethod ({ cls := "IntervalTree", name := "weightOf", desc := "(LIntervalTree$Node;)I" } : Jvm.MethodName)) ∈ lw_tbl := lw_at lw_m1 44 rfl
theorem q137 : (Jvm.Cond.instanceMethod ({ cls := "IntervalTree", name := "weightOf", desc := "(LIntervalTree$Node;)I" } : Jvm.MethodName)) ∈ lw_all := lw_g (lw_at lw_m1 45 rfl) rfl
theorem q138 : (Jvm.Cond.code ({ cls := "IntervalTree", name := "weightOf", desc := "(LIntervalTree$Node;)I" } : Jvm.MethodName) prog_1_method_8_code (4 : Nat) (Option.some Jvm.ClassFile.FieldType.int)) ∈ lw_all := lw_g (lw_at lw_m1 46 rfl) rfl
theorem q139 : (Jvm.Cond.static ({ cls := "IntervalTree", name := "lambda$new$2", desc := "(LIntervalTree$Node;)I" } : Jvm.MethodName)) ∈ lw_all := lw_g (lw_at lw_m1 47 rfl) rfl
theorem q140 : (Jvm.Cond.code ({ cls := "IntervalTree", name := "lambda$new$2", desc := "(LIntervalTree$Node;)I" } : Jvm.MethodName) prog_1_method_112_code (1 : Nat) (Option.some Jvm.ClassFile.FieldType.int)) ∈ lw_all := lw_g (lw_at lw_m1 48 rfl) rfl
theorem q141 : (Jvm.Cond.static ({ cls := "IntervalTree", name := "lambda$new$3", desc := "(LIntervalTree$Node;)Z" } : Jvm.MethodName)) ∈ lw_all := lw_g (lw_at lw_m1 49 rfl) rfl
theorem q142 : (Jvm.Cond.code ({ cls := "IntervalTree", name := "lambda$new$3", desc := "(LIntervalTree$Node;)Z" } : Jvm.MethodName) prog_1_method_111_code (1 : Nat) (Option.some Jvm.ClassFile.FieldType.boolean)) ∈ lw_all := lw_g (lw_at lw_m1 50 rfl) rfl
theorem q143 : (Jvm.Cond.static ({ cls := "IntervalTree", name := "isPoint", desc := "(LIntervalTree$Node;)Z" } : Jvm.MethodName)) ∈ lw_all := lw_g (lw_at lw_m1 51 rfl) rfl
theorem q144 : (Jvm.Cond.code ({ cls := "IntervalTree", name := "isPoint", desc := "(LIntervalTree$Node;)Z" } : Jvm.MethodName) prog_1_method_5_code (1 : Nat) (Option.some Jvm.ClassFile.FieldType.boolean)) ∈ lw_all := lw_g (lw_at lw_m1 52 rfl) rfl
theorem q145 : (Jvm.Cond.privateMethod ({ cls := "IntervalTree", name := "isCrowded", desc := "(LIntervalTree$Node;)Z" } : Jvm.MethodName)) ∈ lw_tbl := lw_at lw_m1 53 rfl
theorem q146 : (Jvm.Cond.instanceMethod ({ cls := "IntervalTree", name := "isCrowded", desc := "(LIntervalTree$Node;)Z" } : Jvm.MethodName)) ∈ lw_all := lw_g (lw_at lw_m1 54 rfl) rfl
theorem q147 : (Jvm.Cond.code ({ cls := "IntervalTree", name := "isCrowded", desc := "(LIntervalTree$Node;)Z" } : Jvm.MethodName) prog_1_method_77_code (3 : Nat) (Option.some Jvm.ClassFile.FieldType.boolean)) ∈ lw_all := lw_g (lw_at lw_m1 55 rfl) rfl
theorem q148 : (Jvm.Cond.methodLink "IntervalTree" (390 : Nat) ({ cls := "IntervalTree", name := "stabbedBy", desc := "(LIntervalTree$Node;III)I" } : Jvm.MethodName)) ∈ lw_all := lw_g (lw_at lw_m1 56 rfl) rfl
theorem q149 : (Jvm.Cond.static ({ cls := "IntervalTree", name := "stabbedBy", desc := "(LIntervalTree$Node;III)I" } : Jvm.MethodName)) ∈ lw_all := lw_g (lw_at lw_m1 57 rfl) rfl
theorem q150 : (Jvm.Cond.code ({ cls := "IntervalTree", name := "stabbedBy", desc := "(LIntervalTree$Node;III)I" } : Jvm.MethodName) prog_1_method_78_code (5 : Nat) (Option.some Jvm.ClassFile.FieldType.int)) ∈ lw_all := lw_g (lw_at lw_m1 58 rfl) rfl
theorem q151 : (Jvm.Cond.methodLink "IntervalTree" (329 : Nat) ({ cls := "IntervalTree$Node", name := "overlaps", desc := "(II)Z" } : Jvm.MethodName)) ∈ lw_all := lw_g (lw_at lw_m1 59 rfl) rfl
theorem q156 : (Jvm.Cond.methodLinkNest "IntervalTree" (57 : Nat) ({ cls := "IntervalTree$Cursor", name := "<init>", desc := "()V" } : Jvm.MethodName) "IntervalTree") ∈ lw_tbl := lw_at lw_m1 64 rfl
theorem q160 : (Jvm.Cond.fieldLink "IntervalTree" (449 : Nat) "IntervalTree$Cursor" "isOpen" "Z") ∈ lw_all := lw_g (lw_at lw_m1 68 rfl) rfl
theorem q161 : (Jvm.Cond.fieldLink "IntervalTree" (454 : Nat) "IntervalTree$Cursor" "hasMoved" "Z") ∈ lw_all := lw_g (lw_at lw_m1 69 rfl) rfl
theorem q162 : (Jvm.Cond.fieldLink "IntervalTree" (460 : Nat) "IntervalTree$Cursor" "filter" "LIntervalTree$Filter;") ∈ lw_all := lw_g (lw_at lw_m1 70 rfl) rfl
theorem q163 : (Jvm.Cond.fieldLink "IntervalTree" (457 : Nat) "IntervalTree$Cursor" "low" "I") ∈ lw_all := lw_g (lw_at lw_m1 71 rfl) rfl
theorem q164 : (Jvm.Cond.fieldLink "IntervalTree" (458 : Nat) "IntervalTree$Cursor" "high" "I") ∈ lw_all := lw_g (lw_at lw_m1 72 rfl) rfl
theorem q165 : (Jvm.Cond.fieldLink "IntervalTree" (459 : Nat) "IntervalTree$Cursor" "id" "I") ∈ lw_all := lw_g (lw_at lw_m1 73 rfl) rfl
theorem q179 : (Jvm.Cond.fieldLink "IntervalTree" (14 : Nat) "IntervalTree" "byId" "[LIntervalTree$Node;") ∈ lw_all := lw_g (lw_at lw_m1 87 rfl) rfl
theorem q180 : (Jvm.Cond.fieldLink "IntervalTree" (20 : Nat) "IntervalTree" "filters" "[LIntervalTree$Filter;") ∈ lw_all := lw_g (lw_at lw_m1 88 rfl) rfl
theorem q182 : (Jvm.Cond.fieldLink "IntervalTree" (26 : Nat) "IntervalTree" "properties" "[LIntervalTree$Property;") ∈ lw_all := lw_g (lw_at lw_m1 90 rfl) rfl
theorem q184 : (Jvm.Cond.fieldLink "IntervalTree" (32 : Nat) "IntervalTree" "cursors" "[LIntervalTree$Cursor;") ∈ lw_all := lw_g (lw_at lw_m1 92 rfl) rfl
theorem q185 : (Jvm.Cond.fieldLink "IntervalTree" (173 : Nat) "IntervalTree" "root" "LIntervalTree$Node;") ∈ lw_all := lw_g (lw_at lw_m1 93 rfl) rfl
theorem q186 : (Jvm.Cond.fieldLink "IntervalTree" (113 : Nat) "IntervalTree" "inserted" "I") ∈ lw_all := lw_g (lw_at lw_m1 94 rfl) rfl
theorem q187 : (Jvm.Cond.fieldLink "IntervalTree" (210 : Nat) "IntervalTree" "nodes" "I") ∈ lw_all := lw_g (lw_at lw_m1 95 rfl) rfl
theorem q188 : (Jvm.Cond.fieldLink "IntervalTree" (213 : Nat) "IntervalTree" "removedNodes" "I") ∈ lw_all := lw_g (lw_at lw_m1 96 rfl) rfl
theorem q189 : (Jvm.Cond.fieldLink "IntervalTree" (97 : Nat) "IntervalTree" "percentage" "I") ∈ lw_all := lw_g (lw_at lw_m1 97 rfl) rfl
theorem q190 : (Jvm.Cond.fieldLink "IntervalTree" (272 : Nat) "IntervalTree" "rebuilds" "I") ∈ lw_all := lw_g (lw_at lw_m1 98 rfl) rfl
theorem q191 : (Jvm.Cond.fieldLink "IntervalTree" (275 : Nat) "IntervalTree" "rebuilt" "I") ∈ lw_all := lw_g (lw_at lw_m1 99 rfl) rfl
theorem q192 : (Jvm.Cond.fieldLink "IntervalTree" (53 : Nat) "IntervalTree" "filterCount" "I") ∈ lw_all := lw_g (lw_at lw_m1 100 rfl) rfl
theorem q193 : (Jvm.Cond.fieldLink "IntervalTree" (58 : Nat) "IntervalTree" "row" "[LIntervalTree$Node;") ∈ lw_all := lw_g (lw_at lw_m1 101 rfl) rfl
theorem q194 : (Jvm.Cond.fieldLink "IntervalTree" (258 : Nat) "IntervalTree" "rowLength" "I") ∈ lw_all := lw_g (lw_at lw_m1 102 rfl) rfl
theorem q195 : (Jvm.Cond.fieldLink "IntervalTree" (319 : Nat) "IntervalTree" "stabbed" "I") ∈ lw_all := lw_g (lw_at lw_m1 103 rfl) rfl
theorem q196 : (Jvm.Cond.fieldLink "IntervalTree" (322 : Nat) "IntervalTree" "stabbedWeight" "I") ∈ lw_all := lw_g (lw_at lw_m1 104 rfl) rfl
theorem q197 : (Jvm.Cond.fieldLink "IntervalTree" (367 : Nat) "IntervalTree" "nearest" "LIntervalTree$Node;") ∈ lw_all := lw_g (lw_at lw_m1 105 rfl) rfl
theorem q198 : (Jvm.Cond.fieldLink "IntervalTree" (370 : Nat) "IntervalTree" "nearestDistance" "I") ∈ lw_all := lw_g (lw_at lw_m1 106 rfl) rfl
theorem q199 : (Jvm.Cond.fieldLink "IntervalTree" (61 : Nat) "IntervalTree" "best" "[I") ∈ lw_all := lw_g (lw_at lw_m1 107 rfl) rfl
theorem q200 : (Jvm.Cond.fieldLink "IntervalTree" (65 : Nat) "IntervalTree" "after" "[I") ∈ lw_all := lw_g (lw_at lw_m1 108 rfl) rfl
theorem q202 : (Jvm.Cond.fieldLink "IntervalTree" (68 : Nat) "IntervalTree" "text" "[B") ∈ lw_all := lw_g (lw_at lw_m1 110 rfl) rfl
theorem q204 : (Jvm.Cond.fieldLink "IntervalTree" (429 : Nat) "IntervalTree" "textLength" "I") ∈ lw_all := lw_g (lw_at lw_m1 112 rfl) rfl
theorem q205 : (Jvm.Cond.fieldLink "IntervalTree" (72 : Nat) "IntervalTree" "savedLow" "[I") ∈ lw_all := lw_g (lw_at lw_m1 113 rfl) rfl
theorem q206 : (Jvm.Cond.fieldLink "IntervalTree" (75 : Nat) "IntervalTree" "savedHigh" "[I") ∈ lw_all := lw_g (lw_at lw_m1 114 rfl) rfl
theorem q207 : (Jvm.Cond.fieldLink "IntervalTree" (78 : Nat) "IntervalTree" "savedWeight" "[I") ∈ lw_all := lw_g (lw_at lw_m1 115 rfl) rfl
theorem q208 : (Jvm.Cond.fieldLink "IntervalTree" (81 : Nat) "IntervalTree" "savedLeft" "[I") ∈ lw_all := lw_g (lw_at lw_m1 116 rfl) rfl
theorem q209 : (Jvm.Cond.fieldLink "IntervalTree" (84 : Nat) "IntervalTree" "savedRight" "[I") ∈ lw_all := lw_g (lw_at lw_m1 117 rfl) rfl
theorem q210 : (Jvm.Cond.fieldLink "IntervalTree" (87 : Nat) "IntervalTree" "savedRed" "[Z") ∈ lw_all := lw_g (lw_at lw_m1 118 rfl) rfl
theorem q211 : (Jvm.Cond.fieldLink "IntervalTree" (91 : Nat) "IntervalTree" "savedRemoved" "[Z") ∈ lw_all := lw_g (lw_at lw_m1 119 rfl) rfl
theorem q212 : (Jvm.Cond.fieldLink "IntervalTree" (480 : Nat) "IntervalTree" "savedRoot" "I") ∈ lw_all := lw_g (lw_at lw_m1 120 rfl) rfl
theorem q213 : (Jvm.Cond.fieldLink "IntervalTree" (94 : Nat) "IntervalTree" "savedInserted" "I") ∈ lw_all := lw_g (lw_at lw_m1 121 rfl) rfl
theorem q214 : (Jvm.Cond.fieldLink "IntervalTree" (483 : Nat) "IntervalTree" "savedPercentage" "I") ∈ lw_all := lw_g (lw_at lw_m1 122 rfl) rfl
theorem q215 : (Jvm.Cond.fieldLink "IntervalTree" (486 : Nat) "IntervalTree" "savedRebuilds" "I") ∈ lw_all := lw_g (lw_at lw_m1 123 rfl) rfl
theorem q216 : (Jvm.Cond.fieldLink "IntervalTree" (489 : Nat) "IntervalTree" "savedRebuilt" "I") ∈ lw_all := lw_g (lw_at lw_m1 124 rfl) rfl
theorem q217 : (Jvm.Cond.laysFinal "IntervalTree" "IntervalTree" "byId" "[LIntervalTree$Node;") ∈ lw_all := lw_g (lw_at lw_m1 125 rfl) rfl
theorem q218 : (Jvm.Cond.soleField "IntervalTree" "byId") ∈ lw_all := lw_g (lw_at lw_m1 126 rfl) rfl
theorem q219 : (Jvm.Cond.laysFinal "IntervalTree" "IntervalTree" "filters" "[LIntervalTree$Filter;") ∈ lw_all := lw_g (lw_at lw_m1 127 rfl) rfl
theorem q220 : (Jvm.Cond.soleField "IntervalTree" "filters") ∈ lw_all := lw_g (lw_at lw_m1 128 rfl) rfl
theorem q221 : (Jvm.Cond.laysFinal "IntervalTree" "IntervalTree" "properties" "[LIntervalTree$Property;") ∈ lw_all := lw_g (lw_at lw_m1 129 rfl) rfl
theorem q222 : (Jvm.Cond.soleField "IntervalTree" "properties") ∈ lw_all := lw_g (lw_at lw_m1 130 rfl) rfl
theorem q223 : (Jvm.Cond.laysFinal "IntervalTree" "IntervalTree" "cursors" "[LIntervalTree$Cursor;") ∈ lw_all := lw_g (lw_at lw_m1 131 rfl) rfl
theorem q224 : (Jvm.Cond.soleField "IntervalTree" "cursors") ∈ lw_all := lw_g (lw_at lw_m1 132 rfl) rfl
theorem q225 : (Jvm.Cond.lays "IntervalTree" "IntervalTree" "root" "LIntervalTree$Node;") ∈ lw_all := lw_g (lw_at lw_m1 133 rfl) rfl
theorem q226 : (Jvm.Cond.soleField "IntervalTree" "root") ∈ lw_all := lw_g (lw_at lw_m1 134 rfl) rfl
theorem q227 : (Jvm.Cond.lays "IntervalTree" "IntervalTree" "inserted" "I") ∈ lw_all := lw_g (lw_at lw_m1 135 rfl) rfl
theorem q228 : (Jvm.Cond.soleField "IntervalTree" "inserted") ∈ lw_all := lw_g (lw_at lw_m1 136 rfl) rfl
theorem q229 : (Jvm.Cond.lays "IntervalTree" "IntervalTree" "nodes" "I") ∈ lw_all := lw_g (lw_at lw_m1 137 rfl) rfl
theorem q230 : (Jvm.Cond.soleField "IntervalTree" "nodes") ∈ lw_all := lw_g (lw_at lw_m1 138 rfl) rfl
theorem q231 : (Jvm.Cond.lays "IntervalTree" "IntervalTree" "removedNodes" "I") ∈ lw_all := lw_g (lw_at lw_m1 139 rfl) rfl
theorem q232 : (Jvm.Cond.soleField "IntervalTree" "removedNodes") ∈ lw_all := lw_g (lw_at lw_m1 140 rfl) rfl
theorem q233 : (Jvm.Cond.lays "IntervalTree" "IntervalTree" "percentage" "I") ∈ lw_all := lw_g (lw_at lw_m1 141 rfl) rfl
theorem q234 : (Jvm.Cond.soleField "IntervalTree" "percentage") ∈ lw_all := lw_g (lw_at lw_m1 142 rfl) rfl
theorem q235 : (Jvm.Cond.lays "IntervalTree" "IntervalTree" "rebuilds" "I") ∈ lw_all := lw_g (lw_at lw_m1 143 rfl) rfl
theorem q236 : (Jvm.Cond.soleField "IntervalTree" "rebuilds") ∈ lw_all := lw_g (lw_at lw_m1 144 rfl) rfl
theorem q237 : (Jvm.Cond.lays "IntervalTree" "IntervalTree" "rebuilt" "I") ∈ lw_all := lw_g (lw_at lw_m1 145 rfl) rfl
theorem q238 : (Jvm.Cond.soleField "IntervalTree" "rebuilt") ∈ lw_all := lw_g (lw_at lw_m1 146 rfl) rfl
theorem q239 : (Jvm.Cond.lays "IntervalTree" "IntervalTree" "filterCount" "I") ∈ lw_all := lw_g (lw_at lw_m1 147 rfl) rfl
theorem q240 : (Jvm.Cond.soleField "IntervalTree" "filterCount") ∈ lw_all := lw_g (lw_at lw_m1 148 rfl) rfl
theorem q241 : (Jvm.Cond.laysFinal "IntervalTree" "IntervalTree" "row" "[LIntervalTree$Node;") ∈ lw_all := lw_g (lw_at lw_m1 149 rfl) rfl
theorem q242 : (Jvm.Cond.soleField "IntervalTree" "row") ∈ lw_all := lw_g (lw_at lw_m1 150 rfl) rfl
theorem q243 : (Jvm.Cond.lays "IntervalTree" "IntervalTree" "rowLength" "I") ∈ lw_all := lw_g (lw_at lw_m1 151 rfl) rfl
theorem q244 : (Jvm.Cond.soleField "IntervalTree" "rowLength") ∈ lw_all := lw_g (lw_at lw_m1 152 rfl) rfl
theorem q245 : (Jvm.Cond.lays "IntervalTree" "IntervalTree" "stabbed" "I") ∈ lw_all := lw_g (lw_at lw_m1 153 rfl) rfl
theorem q246 : (Jvm.Cond.soleField "IntervalTree" "stabbed") ∈ lw_all := lw_g (lw_at lw_m1 154 rfl) rfl
theorem q247 : (Jvm.Cond.lays "IntervalTree" "IntervalTree" "stabbedWeight" "I") ∈ lw_all := lw_g (lw_at lw_m1 155 rfl) rfl
theorem q248 : (Jvm.Cond.soleField "IntervalTree" "stabbedWeight") ∈ lw_all := lw_g (lw_at lw_m1 156 rfl) rfl
theorem q249 : (Jvm.Cond.lays "IntervalTree" "IntervalTree" "nearest" "LIntervalTree$Node;") ∈ lw_all := lw_g (lw_at lw_m1 157 rfl) rfl
theorem q250 : (Jvm.Cond.soleField "IntervalTree" "nearest") ∈ lw_all := lw_g (lw_at lw_m1 158 rfl) rfl
theorem q251 : (Jvm.Cond.lays "IntervalTree" "IntervalTree" "nearestDistance" "I") ∈ lw_all := lw_g (lw_at lw_m1 159 rfl) rfl
theorem q252 : (Jvm.Cond.soleField "IntervalTree" "nearestDistance") ∈ lw_all := lw_g (lw_at lw_m1 160 rfl) rfl
theorem q253 : (Jvm.Cond.laysFinal "IntervalTree" "IntervalTree" "best" "[I") ∈ lw_all := lw_g (lw_at lw_m1 161 rfl) rfl
theorem q254 : (Jvm.Cond.soleField "IntervalTree" "best") ∈ lw_all := lw_g (lw_at lw_m1 162 rfl) rfl
theorem q255 : (Jvm.Cond.laysFinal "IntervalTree" "IntervalTree" "after" "[I") ∈ lw_all := lw_g (lw_at lw_m1 163 rfl) rfl
theorem q256 : (Jvm.Cond.soleField "IntervalTree" "after") ∈ lw_all := lw_g (lw_at lw_m1 164 rfl) rfl
theorem q257 : (Jvm.Cond.laysFinal "IntervalTree" "IntervalTree" "text" "[B") ∈ lw_all := lw_g (lw_at lw_m1 165 rfl) rfl
theorem q258 : (Jvm.Cond.soleField "IntervalTree" "text") ∈ lw_all := lw_g (lw_at lw_m1 166 rfl) rfl
theorem q259 : (Jvm.Cond.lays "IntervalTree" "IntervalTree" "textLength" "I") ∈ lw_all := lw_g (lw_at lw_m1 167 rfl) rfl
theorem q260 : (Jvm.Cond.soleField "IntervalTree" "textLength") ∈ lw_all := lw_g (lw_at lw_m1 168 rfl) rfl
theorem q261 : (Jvm.Cond.laysFinal "IntervalTree" "IntervalTree" "savedLow" "[I") ∈ lw_all := lw_g (lw_at lw_m1 169 rfl) rfl
theorem q262 : (Jvm.Cond.soleField "IntervalTree" "savedLow") ∈ lw_all := lw_g (lw_at lw_m1 170 rfl) rfl
theorem q263 : (Jvm.Cond.laysFinal "IntervalTree" "IntervalTree" "savedHigh" "[I") ∈ lw_all := lw_g (lw_at lw_m1 171 rfl) rfl
theorem q264 : (Jvm.Cond.soleField "IntervalTree" "savedHigh") ∈ lw_all := lw_g (lw_at lw_m1 172 rfl) rfl
theorem q265 : (Jvm.Cond.laysFinal "IntervalTree" "IntervalTree" "savedWeight" "[I") ∈ lw_all := lw_g (lw_at lw_m1 173 rfl) rfl
theorem q266 : (Jvm.Cond.soleField "IntervalTree" "savedWeight") ∈ lw_all := lw_g (lw_at lw_m1 174 rfl) rfl
theorem q267 : (Jvm.Cond.laysFinal "IntervalTree" "IntervalTree" "savedLeft" "[I") ∈ lw_all := lw_g (lw_at lw_m1 175 rfl) rfl
theorem q268 : (Jvm.Cond.soleField "IntervalTree" "savedLeft") ∈ lw_all := lw_g (lw_at lw_m1 176 rfl) rfl
theorem q269 : (Jvm.Cond.laysFinal "IntervalTree" "IntervalTree" "savedRight" "[I") ∈ lw_all := lw_g (lw_at lw_m1 177 rfl) rfl
theorem q270 : (Jvm.Cond.soleField "IntervalTree" "savedRight") ∈ lw_all := lw_g (lw_at lw_m1 178 rfl) rfl
theorem q271 : (Jvm.Cond.laysFinal "IntervalTree" "IntervalTree" "savedRed" "[Z") ∈ lw_all := lw_g (lw_at lw_m1 179 rfl) rfl
theorem q272 : (Jvm.Cond.soleField "IntervalTree" "savedRed") ∈ lw_all := lw_g (lw_at lw_m1 180 rfl) rfl
theorem q273 : (Jvm.Cond.laysFinal "IntervalTree" "IntervalTree" "savedRemoved" "[Z") ∈ lw_all := lw_g (lw_at lw_m1 181 rfl) rfl
theorem q274 : (Jvm.Cond.soleField "IntervalTree" "savedRemoved") ∈ lw_all := lw_g (lw_at lw_m1 182 rfl) rfl
theorem q275 : (Jvm.Cond.lays "IntervalTree" "IntervalTree" "savedRoot" "I") ∈ lw_all := lw_g (lw_at lw_m1 183 rfl) rfl
theorem q276 : (Jvm.Cond.soleField "IntervalTree" "savedRoot") ∈ lw_all := lw_g (lw_at lw_m1 184 rfl) rfl
theorem q277 : (Jvm.Cond.lays "IntervalTree" "IntervalTree" "savedInserted" "I") ∈ lw_all := lw_g (lw_at lw_m1 185 rfl) rfl
theorem q278 : (Jvm.Cond.soleField "IntervalTree" "savedInserted") ∈ lw_all := lw_g (lw_at lw_m1 186 rfl) rfl
theorem q279 : (Jvm.Cond.lays "IntervalTree" "IntervalTree" "savedPercentage" "I") ∈ lw_all := lw_g (lw_at lw_m1 187 rfl) rfl
theorem q280 : (Jvm.Cond.soleField "IntervalTree" "savedPercentage") ∈ lw_all := lw_g (lw_at lw_m1 188 rfl) rfl
theorem q281 : (Jvm.Cond.lays "IntervalTree" "IntervalTree" "savedRebuilds" "I") ∈ lw_all := lw_g (lw_at lw_m1 189 rfl) rfl
theorem q282 : (Jvm.Cond.soleField "IntervalTree" "savedRebuilds") ∈ lw_all := lw_g (lw_at lw_m1 190 rfl) rfl
theorem q283 : (Jvm.Cond.lays "IntervalTree" "IntervalTree" "savedRebuilt" "I") ∈ lw_all := lw_g (lw_at lw_m1 191 rfl) rfl
theorem q284 : (Jvm.Cond.soleField "IntervalTree" "savedRebuilt") ∈ lw_all := lw_g (lw_at lw_m1 192 rfl) rfl
theorem q285 : (Jvm.Cond.superclass "IntervalTree" "java/lang/Object") ∈ lw_all := lw_g (lw_at lw_m1 193 rfl) rfl
theorem q290 : (Jvm.Cond.instanceMethod ({ cls := "IntervalTree", name := "rebuild", desc := "()I" } : Jvm.MethodName)) ∈ lw_all := lw_g (lw_at lw_m1 198 rfl) rfl
theorem q291 : (Jvm.Cond.selects "IntervalTree" ({ cls := "IntervalTree", name := "rebuild", desc := "()I" } : Jvm.MethodName) ({ cls := "IntervalTree", name := "rebuild", desc := "()I" } : Jvm.MethodName)) ∈ lw_all := lw_g (lw_at lw_m1 199 rfl) rfl
theorem q292 : (Jvm.Cond.code ({ cls := "IntervalTree", name := "rebuild", desc := "()I" } : Jvm.MethodName) prog_1_method_29_code (1 : Nat) (Option.some Jvm.ClassFile.FieldType.int)) ∈ lw_all := lw_g (lw_at lw_m1 200 rfl) rfl
theorem q293 : (Jvm.Cond.methodLink "IntervalTree" (221 : Nat) ({ cls := "IntervalTree", name := "rebuildTree", desc := "()I" } : Jvm.MethodName)) ∈ lw_all := lw_g (lw_at lw_m1 201 rfl) rfl
theorem q294 : (Jvm.Cond.privateMethod ({ cls := "IntervalTree", name := "rebuildTree", desc := "()I" } : Jvm.MethodName)) ∈ lw_tbl := lw_at lw_m1 202 rfl
theorem q295 : (Jvm.Cond.instanceMethod ({ cls := "IntervalTree", name := "rebuildTree", desc := "()I" } : Jvm.MethodName)) ∈ lw_all := lw_g (lw_at lw_m1 203 rfl) rfl
theorem q296 : (Jvm.Cond.code ({ cls := "IntervalTree", name := "rebuildTree", desc := "()I" } : Jvm.MethodName) prog_1_method_28_code (3 : Nat) (Option.some Jvm.ClassFile.FieldType.int)) ∈ lw_all := lw_g (lw_at lw_m1 204 rfl) rfl
theorem q297 : (Jvm.Cond.methodLink "IntervalTree" (268 : Nat) ({ cls := "IntervalTree", name := "collectLive", desc := "()V" } : Jvm.MethodName)) ∈ lw_all := lw_g (lw_at lw_m1 205 rfl) rfl
theorem q298 : (Jvm.Cond.privateMethod ({ cls := "IntervalTree", name := "collectLive", desc := "()V" } : Jvm.MethodName)) ∈ lw_tbl := lw_at lw_m1 206 rfl
theorem q299 : (Jvm.Cond.instanceMethod ({ cls := "IntervalTree", name := "collectLive", desc := "()V" } : Jvm.MethodName)) ∈ lw_all := lw_g (lw_at lw_m1 207 rfl) rfl
theorem q300 : (Jvm.Cond.code ({ cls := "IntervalTree", name := "collectLive", desc := "()V" } : Jvm.MethodName) prog_1_method_26_code (1 : Nat) (Option.none : Option Jvm.ClassFile.FieldType)) ∈ lw_all := lw_g (lw_at lw_m1 208 rfl) rfl
theorem q301 : (Jvm.Cond.privateMethod ({ cls := "IntervalTree", name := "lambda$collectLive$4", desc := "(LIntervalTree$Node;)V" } : Jvm.MethodName)) ∈ lw_tbl := lw_at lw_m1 209 rfl
theorem q302 : (Jvm.Cond.instanceMethod ({ cls := "IntervalTree", name := "lambda$collectLive$4", desc := "(LIntervalTree$Node;)V" } : Jvm.MethodName)) ∈ lw_all := lw_g (lw_at lw_m1 210 rfl) rfl
theorem q303 : (Jvm.Cond.code ({ cls := "IntervalTree", name := "lambda$collectLive$4", desc := "(LIntervalTree$Node;)V" } : Jvm.MethodName) prog_1_method_110_code (2 : Nat) (Option.none : Option Jvm.ClassFile.FieldType)) ∈ lw_all := lw_g (lw_at lw_m1 211 rfl) rfl
theorem q304 : (Jvm.Cond.methodLink "IntervalTree" (503 : Nat) ({ cls := "IntervalTree", name := "append", desc := "(LIntervalTree$Node;)V" } : Jvm.MethodName)) ∈ lw_all := lw_g (lw_at lw_m1 212 rfl) rfl
theorem q305 : (Jvm.Cond.privateMethod ({ cls := "IntervalTree", name := "append", desc := "(LIntervalTree$Node;)V" } : Jvm.MethodName)) ∈ lw_tbl := lw_at lw_m1 213 rfl
theorem q306 : (Jvm.Cond.instanceMethod ({ cls := "IntervalTree", name := "append", desc := "(LIntervalTree$Node;)V" } : Jvm.MethodName)) ∈ lw_all := lw_g (lw_at lw_m1 214 rfl) rfl
theorem q307 : (Jvm.Cond.code ({ cls := "IntervalTree", name := "append", desc := "(LIntervalTree$Node;)V" } : Jvm.MethodName) prog_1_method_25_code (2 : Nat) (Option.none : Option Jvm.ClassFile.FieldType)) ∈ lw_all := lw_g (lw_at lw_m1 215 rfl) rfl
theorem q308 : (Jvm.Cond.methodLink "IntervalTree" (249 : Nat) ({ cls := "IntervalTree", name := "visitAll", desc := "(LIntervalTree$Node;LIntervalTree$Visitor;)V" } : Jvm.MethodName)) ∈ lw_all := lw_g (lw_at lw_m1 216 rfl) rfl
theorem q309 : (Jvm.Cond.privateMethod ({ cls := "IntervalTree", name := "visitAll", desc := "(LIntervalTree$Node;LIntervalTree$Visitor;)V" } : Jvm.MethodName)) ∈ lw_tbl := lw_at lw_m1 217 rfl
theorem q310 : (Jvm.Cond.instanceMethod ({ cls := "IntervalTree", name := "visitAll", desc := "(LIntervalTree$Node;LIntervalTree$Visitor;)V" } : Jvm.MethodName)) ∈ lw_all := lw_g (lw_at lw_m1 218 rfl) rfl
theorem q311 : (Jvm.Cond.code ({ cls := "IntervalTree", name := "visitAll", desc := "(LIntervalTree$Node;LIntervalTree$Visitor;)V" } : Jvm.MethodName) prog_1_method_24_code (3 : Nat) (Option.none : Option Jvm.ClassFile.FieldType)) ∈ lw_all := lw_g (lw_at lw_m1 219 rfl) rfl
theorem q312 : (Jvm.Cond.methodLink "IntervalTree" (148 : Nat) ({ cls := "IntervalTree$Node", name := "push", desc := "()V" } : Jvm.MethodName)) ∈ lw_all := lw_g (lw_at lw_m1 220 rfl) rfl
theorem q320 : (Jvm.Cond.interfaceEntry "IntervalTree" (253 : Nat)) ∈ lw_tbl := lw_at lw_m1 228 rfl
theorem q321 : (Jvm.Cond.methodLink "IntervalTree" (253 : Nat) ({ cls := "IntervalTree$Visitor", name := "visit", desc := "(LIntervalTree$Node;)V" } : Jvm.MethodName)) ∈ lw_all := lw_g (lw_at lw_m1 229 rfl) rfl
theorem q324 : (Jvm.Cond.privateMethod ({ cls := "IntervalTree", name := "lambda$rebuildTree$5", desc := "(LIntervalTree$Node;)V" } : Jvm.MethodName)) ∈ lw_tbl := lw_at lw_m1 232 rfl
theorem q325 : (Jvm.Cond.instanceMethod ({ cls := "IntervalTree", name := "lambda$rebuildTree$5", desc := "(LIntervalTree$Node;)V" } : Jvm.MethodName)) ∈ lw_all := lw_g (lw_at lw_m1 233 rfl) rfl
theorem q326 : (Jvm.Cond.code ({ cls := "IntervalTree", name := "lambda$rebuildTree$5", desc := "(LIntervalTree$Node;)V" } : Jvm.MethodName) prog_1_method_109_code (2 : Nat) (Option.none : Option Jvm.ClassFile.FieldType)) ∈ lw_all := lw_g (lw_at lw_m1 234 rfl) rfl
theorem q327 : (Jvm.Cond.methodLink "IntervalTree" (264 : Nat) ({ cls := "IntervalTree", name := "build", desc := "(IIII)LIntervalTree$Node;" } : Jvm.MethodName)) ∈ lw_all := lw_g (lw_at lw_m1 235 rfl) rfl
theorem q328 : (Jvm.Cond.privateMethod ({ cls := "IntervalTree", name := "build", desc := "(IIII)LIntervalTree$Node;" } : Jvm.MethodName)) ∈ lw_tbl := lw_at lw_m1 236 rfl
theorem q329 : (Jvm.Cond.instanceMethod ({ cls := "IntervalTree", name := "build", desc := "(IIII)LIntervalTree$Node;" } : Jvm.MethodName)) ∈ lw_all := lw_g (lw_at lw_m1 237 rfl) rfl
theorem q330 : (Jvm.Cond.code ({ cls := "IntervalTree", name := "build", desc := "(IIII)LIntervalTree$Node;" } : Jvm.MethodName) prog_1_method_27_code (7 : Nat) (Option.some (Jvm.ClassFile.FieldType.object "IntervalTree$Node"))) ∈ lw_all := lw_g (lw_at lw_m1 238 rfl) rfl
theorem q331 : (Jvm.Cond.methodLink "IntervalTree" (151 : Nat) ({ cls := "IntervalTree$Node", name := "pull", desc := "()V" } : Jvm.MethodName)) ∈ lw_all := lw_g (lw_at lw_m1 239 rfl) rfl
theorem q344 : (Jvm.Cond.instanceMethod ({ cls := "IntervalTree", name := "size", desc := "()I" } : Jvm.MethodName)) ∈ lw_all := lw_g (lw_at lw_m2 12 rfl) rfl
theorem q345 : (Jvm.Cond.selects "IntervalTree" ({ cls := "IntervalTree", name := "size", desc := "()I" } : Jvm.MethodName) ({ cls := "IntervalTree", name := "size", desc := "()I" } : Jvm.MethodName)) ∈ lw_all := lw_g (lw_at lw_m2 13 rfl) rfl
theorem q346 : (Jvm.Cond.code ({ cls := "IntervalTree", name := "size", desc := "()I" } : Jvm.MethodName) prog_1_method_31_code (1 : Nat) (Option.some Jvm.ClassFile.FieldType.int)) ∈ lw_all := lw_g (lw_at lw_m2 14 rfl) rfl
theorem q348 : (Jvm.Cond.instanceMethod ({ cls := "IntervalTree", name := "nodeCount", desc := "()I" } : Jvm.MethodName)) ∈ lw_all := lw_g (lw_at lw_m2 16 rfl) rfl
theorem q349 : (Jvm.Cond.selects "IntervalTree" ({ cls := "IntervalTree", name := "nodeCount", desc := "()I" } : Jvm.MethodName) ({ cls := "IntervalTree", name := "nodeCount", desc := "()I" } : Jvm.MethodName)) ∈ lw_all := lw_g (lw_at lw_m2 17 rfl) rfl
theorem q350 : (Jvm.Cond.code ({ cls := "IntervalTree", name := "nodeCount", desc := "()I" } : Jvm.MethodName) prog_1_method_32_code (1 : Nat) (Option.some Jvm.ClassFile.FieldType.int)) ∈ lw_all := lw_g (lw_at lw_m2 18 rfl) rfl
theorem q352 : (Jvm.Cond.instanceMethod ({ cls := "IntervalTree", name := "height", desc := "()I" } : Jvm.MethodName)) ∈ lw_all := lw_g (lw_at lw_m2 20 rfl) rfl
theorem q353 : (Jvm.Cond.selects "IntervalTree" ({ cls := "IntervalTree", name := "height", desc := "()I" } : Jvm.MethodName) ({ cls := "IntervalTree", name := "height", desc := "()I" } : Jvm.MethodName)) ∈ lw_all := lw_g (lw_at lw_m2 21 rfl) rfl
theorem q354 : (Jvm.Cond.code ({ cls := "IntervalTree", name := "height", desc := "()I" } : Jvm.MethodName) prog_1_method_34_code (1 : Nat) (Option.some Jvm.ClassFile.FieldType.int)) ∈ lw_all := lw_g (lw_at lw_m2 22 rfl) rfl
theorem q355 : (Jvm.Cond.methodLink "IntervalTree" (278 : Nat) ({ cls := "IntervalTree", name := "heightOf", desc := "(LIntervalTree$Node;)I" } : Jvm.MethodName)) ∈ lw_all := lw_g (lw_at lw_m2 23 rfl) rfl
theorem q356 : (Jvm.Cond.static ({ cls := "IntervalTree", name := "heightOf", desc := "(LIntervalTree$Node;)I" } : Jvm.MethodName)) ∈ lw_all := lw_g (lw_at lw_m2 24 rfl) rfl
theorem q357 : (Jvm.Cond.code ({ cls := "IntervalTree", name := "heightOf", desc := "(LIntervalTree$Node;)I" } : Jvm.MethodName) prog_1_method_33_code (1 : Nat) (Option.some Jvm.ClassFile.FieldType.int)) ∈ lw_all := lw_g (lw_at lw_m2 25 rfl) rfl
theorem q358 : (Jvm.Cond.methodLink "IntervalTree" (281 : Nat) ({ cls := "java/lang/Math", name := "max", desc := "(II)I" } : Jvm.MethodName)) ∈ lw_all := lw_g (lw_at lw_m2 26 rfl) rfl
theorem q360 : (Jvm.Cond.instanceMethod ({ cls := "IntervalTree", name := "rebuildCount", desc := "()I" } : Jvm.MethodName)) ∈ lw_all := lw_g (lw_at lw_m2 28 rfl) rfl
theorem q361 : (Jvm.Cond.selects "IntervalTree" ({ cls := "IntervalTree", name := "rebuildCount", desc := "()I" } : Jvm.MethodName) ({ cls := "IntervalTree", name := "rebuildCount", desc := "()I" } : Jvm.MethodName)) ∈ lw_all := lw_g (lw_at lw_m2 29 rfl) rfl
theorem q362 : (Jvm.Cond.code ({ cls := "IntervalTree", name := "rebuildCount", desc := "()I" } : Jvm.MethodName) prog_1_method_35_code (1 : Nat) (Option.some Jvm.ClassFile.FieldType.int)) ∈ lw_all := lw_g (lw_at lw_m2 30 rfl) rfl
theorem q364 : (Jvm.Cond.instanceMethod ({ cls := "IntervalTree", name := "rebuiltNodes", desc := "()I" } : Jvm.MethodName)) ∈ lw_all := lw_g (lw_at lw_m2 32 rfl) rfl
theorem q365 : (Jvm.Cond.selects "IntervalTree" ({ cls := "IntervalTree", name := "rebuiltNodes", desc := "()I" } : Jvm.MethodName) ({ cls := "IntervalTree", name := "rebuiltNodes", desc := "()I" } : Jvm.MethodName)) ∈ lw_all := lw_g (lw_at lw_m2 33 rfl) rfl
theorem q366 : (Jvm.Cond.code ({ cls := "IntervalTree", name := "rebuiltNodes", desc := "()I" } : Jvm.MethodName) prog_1_method_36_code (1 : Nat) (Option.some Jvm.ClassFile.FieldType.int)) ∈ lw_all := lw_g (lw_at lw_m2 34 rfl) rfl
theorem q368 : (Jvm.Cond.instanceMethod ({ cls := "IntervalTree", name := "digest", desc := "()I" } : Jvm.MethodName)) ∈ lw_all := lw_g (lw_at lw_m2 36 rfl) rfl
theorem q369 : (Jvm.Cond.selects "IntervalTree" ({ cls := "IntervalTree", name := "digest", desc := "()I" } : Jvm.MethodName) ({ cls := "IntervalTree", name := "digest", desc := "()I" } : Jvm.MethodName)) ∈ lw_all := lw_g (lw_at lw_m2 37 rfl) rfl
theorem q370 : (Jvm.Cond.code ({ cls := "IntervalTree", name := "digest", desc := "()I" } : Jvm.MethodName) prog_1_method_51_code (1 : Nat) (Option.some Jvm.ClassFile.FieldType.int)) ∈ lw_all := lw_g (lw_at lw_m2 38 rfl) rfl
theorem q371 : (Jvm.Cond.methodLink "IntervalTree" (311 : Nat) ({ cls := "IntervalTree", name := "digestOf", desc := "(LIntervalTree$Node;I)I" } : Jvm.MethodName)) ∈ lw_all := lw_g (lw_at lw_m2 39 rfl) rfl
theorem q372 : (Jvm.Cond.static ({ cls := "IntervalTree", name := "digestOf", desc := "(LIntervalTree$Node;I)I" } : Jvm.MethodName)) ∈ lw_all := lw_g (lw_at lw_m2 40 rfl) rfl
theorem q373 : (Jvm.Cond.code ({ cls := "IntervalTree", name := "digestOf", desc := "(LIntervalTree$Node;I)I" } : Jvm.MethodName) prog_1_method_50_code (3 : Nat) (Option.some Jvm.ClassFile.FieldType.int)) ∈ lw_all := lw_g (lw_at lw_m2 41 rfl) rfl
theorem q374 : (Jvm.Cond.methodLink "IntervalTree" (307 : Nat) ({ cls := "IntervalTree", name := "absorb", desc := "(I[I)I" } : Jvm.MethodName)) ∈ lw_all := lw_g (lw_at lw_m2 42 rfl) rfl
theorem q375 : (Jvm.Cond.static ({ cls := "IntervalTree", name := "absorb", desc := "(I[I)I" } : Jvm.MethodName)) ∈ lw_all := lw_g (lw_at lw_m2 43 rfl) rfl
theorem q376 : (Jvm.Cond.code ({ cls := "IntervalTree", name := "absorb", desc := "(I[I)I" } : Jvm.MethodName) prog_1_method_49_code (7 : Nat) (Option.some Jvm.ClassFile.FieldType.int)) ∈ lw_all := lw_g (lw_at lw_m2 44 rfl) rfl
theorem q377 : (Jvm.Cond.fieldLink "IntervalTree" (304 : Nat) "IntervalTree" "TABLE" "[I") ∈ lw_all := lw_g (lw_at lw_m2 45 rfl) rfl
theorem q378 : (Jvm.Cond.laysStatic "IntervalTree" "TABLE" "[I") ∈ lw_tbl := lw_at lw_m2 46 rfl
theorem q380 : (Jvm.Cond.instanceMethod ({ cls := "IntervalTree", name := "stabCount", desc := "(I)I" } : Jvm.MethodName)) ∈ lw_all := lw_g (lw_at lw_m2 48 rfl) rfl
theorem q381 : (Jvm.Cond.selects "IntervalTree" ({ cls := "IntervalTree", name := "stabCount", desc := "(I)I" } : Jvm.MethodName) ({ cls := "IntervalTree", name := "stabCount", desc := "(I)I" } : Jvm.MethodName)) ∈ lw_all := lw_g (lw_at lw_m2 49 rfl) rfl
theorem q382 : (Jvm.Cond.code ({ cls := "IntervalTree", name := "stabCount", desc := "(I)I" } : Jvm.MethodName) prog_1_method_53_code (2 : Nat) (Option.some Jvm.ClassFile.FieldType.int)) ∈ lw_all := lw_g (lw_at lw_m2 50 rfl) rfl
theorem q383 : (Jvm.Cond.methodLink "IntervalTree" (315 : Nat) ({ cls := "IntervalTree", name := "stab", desc := "(LIntervalTree$Node;I)V" } : Jvm.MethodName)) ∈ lw_all := lw_g (lw_at lw_m2 51 rfl) rfl
theorem q384 : (Jvm.Cond.privateMethod ({ cls := "IntervalTree", name := "stab", desc := "(LIntervalTree$Node;I)V" } : Jvm.MethodName)) ∈ lw_tbl := lw_at lw_m2 52 rfl
theorem q385 : (Jvm.Cond.instanceMethod ({ cls := "IntervalTree", name := "stab", desc := "(LIntervalTree$Node;I)V" } : Jvm.MethodName)) ∈ lw_all := lw_g (lw_at lw_m2 53 rfl) rfl
theorem q386 : (Jvm.Cond.code ({ cls := "IntervalTree", name := "stab", desc := "(LIntervalTree$Node;I)V" } : Jvm.MethodName) prog_1_method_52_code (3 : Nat) (Option.none : Option Jvm.ClassFile.FieldType)) ∈ lw_all := lw_g (lw_at lw_m2 54 rfl) rfl
theorem q388 : (Jvm.Cond.instanceMethod ({ cls := "IntervalTree", name := "stabWeight", desc := "(I)I" } : Jvm.MethodName)) ∈ lw_all := lw_g (lw_at lw_m2 56 rfl) rfl
theorem q389 : (Jvm.Cond.selects "IntervalTree" ({ cls := "IntervalTree", name := "stabWeight", desc := "(I)I" } : Jvm.MethodName) ({ cls := "IntervalTree", name := "stabWeight", desc := "(I)I" } : Jvm.MethodName)) ∈ lw_all := lw_g (lw_at lw_m2 57 rfl) rfl
theorem q390 : (Jvm.Cond.code ({ cls := "IntervalTree", name := "stabWeight", desc := "(I)I" } : Jvm.MethodName) prog_1_method_54_code (2 : Nat) (Option.some Jvm.ClassFile.FieldType.int)) ∈ lw_all := lw_g (lw_at lw_m2 58 rfl) rfl
theorem q392 : (Jvm.Cond.instanceMethod ({ cls := "IntervalTree", name := "floor", desc := "(I)I" } : Jvm.MethodName)) ∈ lw_all := lw_g (lw_at lw_m2 60 rfl) rfl
theorem q393 : (Jvm.Cond.selects "IntervalTree" ({ cls := "IntervalTree", name := "floor", desc := "(I)I" } : Jvm.MethodName) ({ cls := "IntervalTree", name := "floor", desc := "(I)I" } : Jvm.MethodName)) ∈ lw_all := lw_g (lw_at lw_m2 61 rfl) rfl
theorem q394 : (Jvm.Cond.code ({ cls := "IntervalTree", name := "floor", desc := "(I)I" } : Jvm.MethodName) prog_1_method_63_code (2 : Nat) (Option.some Jvm.ClassFile.FieldType.int)) ∈ lw_all := lw_g (lw_at lw_m2 62 rfl) rfl
theorem q395 : (Jvm.Cond.methodLink "IntervalTree" (345 : Nat) ({ cls := "IntervalTree", name := "floorIn", desc := "(LIntervalTree$Node;I)LIntervalTree$Node;" } : Jvm.MethodName)) ∈ lw_all := lw_g (lw_at lw_m2 63 rfl) rfl
theorem q396 : (Jvm.Cond.static ({ cls := "IntervalTree", name := "floorIn", desc := "(LIntervalTree$Node;I)LIntervalTree$Node;" } : Jvm.MethodName)) ∈ lw_all := lw_g (lw_at lw_m2 64 rfl) rfl
theorem q397 : (Jvm.Cond.code ({ cls := "IntervalTree", name := "floorIn", desc := "(LIntervalTree$Node;I)LIntervalTree$Node;" } : Jvm.MethodName) prog_1_method_62_code (3 : Nat) (Option.some (Jvm.ClassFile.FieldType.object "IntervalTree$Node"))) ∈ lw_all := lw_g (lw_at lw_m2 65 rfl) rfl
theorem q398 : (Jvm.Cond.methodLink "IntervalTree" (290 : Nat) ({ cls := "IntervalTree", name := "idOf", desc := "(LIntervalTree$Node;)I" } : Jvm.MethodName)) ∈ lw_all := lw_g (lw_at lw_m2 66 rfl) rfl
theorem q399 : (Jvm.Cond.static ({ cls := "IntervalTree", name := "idOf", desc := "(LIntervalTree$Node;)I" } : Jvm.MethodName)) ∈ lw_all := lw_g (lw_at lw_m2 67 rfl) rfl
theorem q400 : (Jvm.Cond.code ({ cls := "IntervalTree", name := "idOf", desc := "(LIntervalTree$Node;)I" } : Jvm.MethodName) prog_1_method_41_code (1 : Nat) (Option.some Jvm.ClassFile.FieldType.int)) ∈ lw_all := lw_g (lw_at lw_m2 68 rfl) rfl
theorem q402 : (Jvm.Cond.instanceMethod ({ cls := "IntervalTree", name := "ceiling", desc := "(I)I" } : Jvm.MethodName)) ∈ lw_all := lw_g (lw_at lw_m2 70 rfl) rfl
theorem q403 : (Jvm.Cond.selects "IntervalTree" ({ cls := "IntervalTree", name := "ceiling", desc := "(I)I" } : Jvm.MethodName) ({ cls := "IntervalTree", name := "ceiling", desc := "(I)I" } : Jvm.MethodName)) ∈ lw_all := lw_g (lw_at lw_m2 71 rfl) rfl
theorem q404 : (Jvm.Cond.code ({ cls := "IntervalTree", name := "ceiling", desc := "(I)I" } : Jvm.MethodName) prog_1_method_65_code (2 : Nat) (Option.some Jvm.ClassFile.FieldType.int)) ∈ lw_all := lw_g (lw_at lw_m2 72 rfl) rfl
theorem q405 : (Jvm.Cond.constant "IntervalTree" (358 : Nat) (-2147483648 : Int32)) ∈ lw_all := lw_g (lw_at lw_m2 73 rfl) rfl
theorem q406 : (Jvm.Cond.methodLink "IntervalTree" (352 : Nat) ({ cls := "IntervalTree", name := "ceilingIn", desc := "(LIntervalTree$Node;III)LIntervalTree$Node;" } : Jvm.MethodName)) ∈ lw_all := lw_g (lw_at lw_m2 74 rfl) rfl
theorem q407 : (Jvm.Cond.static ({ cls := "IntervalTree", name := "ceilingIn", desc := "(LIntervalTree$Node;III)LIntervalTree$Node;" } : Jvm.MethodName)) ∈ lw_all := lw_g (lw_at lw_m2 75 rfl) rfl
theorem q408 : (Jvm.Cond.code ({ cls := "IntervalTree", name := "ceilingIn", desc := "(LIntervalTree$Node;III)LIntervalTree$Node;" } : Jvm.MethodName) prog_1_method_64_code (5 : Nat) (Option.some (Jvm.ClassFile.FieldType.object "IntervalTree$Node"))) ∈ lw_all := lw_g (lw_at lw_m2 76 rfl) rfl
theorem q409 : (Jvm.Cond.methodLink "IntervalTree" (349 : Nat) ({ cls := "IntervalTree$Node", name := "isBeforeKey", desc := "(III)Z" } : Jvm.MethodName)) ∈ lw_all := lw_g (lw_at lw_m2 77 rfl) rfl
theorem q414 : (Jvm.Cond.instanceMethod ({ cls := "IntervalTree", name := "overlapCount", desc := "()I" } : Jvm.MethodName)) ∈ lw_all := lw_g (lw_at lw_m2 82 rfl) rfl
theorem q415 : (Jvm.Cond.selects "IntervalTree" ({ cls := "IntervalTree", name := "overlapCount", desc := "()I" } : Jvm.MethodName) ({ cls := "IntervalTree", name := "overlapCount", desc := "()I" } : Jvm.MethodName)) ∈ lw_all := lw_g (lw_at lw_m2 83 rfl) rfl
theorem q416 : (Jvm.Cond.code ({ cls := "IntervalTree", name := "overlapCount", desc := "()I" } : Jvm.MethodName) prog_1_method_72_code (4 : Nat) (Option.some Jvm.ClassFile.FieldType.int)) ∈ lw_all := lw_g (lw_at lw_m2 84 rfl) rfl
theorem q418 : (Jvm.Cond.instanceMethod ({ cls := "IntervalTree", name := "scheduleWeight", desc := "()I" } : Jvm.MethodName)) ∈ lw_all := lw_g (lw_at lw_m2 86 rfl) rfl
theorem q419 : (Jvm.Cond.selects "IntervalTree" ({ cls := "IntervalTree", name := "scheduleWeight", desc := "()I" } : Jvm.MethodName) ({ cls := "IntervalTree", name := "scheduleWeight", desc := "()I" } : Jvm.MethodName)) ∈ lw_all := lw_g (lw_at lw_m2 87 rfl) rfl
theorem q420 : (Jvm.Cond.code ({ cls := "IntervalTree", name := "scheduleWeight", desc := "()I" } : Jvm.MethodName) prog_1_method_74_code (1 : Nat) (Option.some Jvm.ClassFile.FieldType.int)) ∈ lw_all := lw_g (lw_at lw_m2 88 rfl) rfl
theorem q421 : (Jvm.Cond.methodLink "IntervalTree" (385 : Nat) ({ cls := "IntervalTree", name := "schedule", desc := "()V" } : Jvm.MethodName)) ∈ lw_all := lw_g (lw_at lw_m2 89 rfl) rfl
theorem q422 : (Jvm.Cond.privateMethod ({ cls := "IntervalTree", name := "schedule", desc := "()V" } : Jvm.MethodName)) ∈ lw_tbl := lw_at lw_m2 90 rfl
theorem q423 : (Jvm.Cond.instanceMethod ({ cls := "IntervalTree", name := "schedule", desc := "()V" } : Jvm.MethodName)) ∈ lw_all := lw_g (lw_at lw_m2 91 rfl) rfl
theorem q424 : (Jvm.Cond.code ({ cls := "IntervalTree", name := "schedule", desc := "()V" } : Jvm.MethodName) prog_1_method_73_code (3 : Nat) (Option.none : Option Jvm.ClassFile.FieldType)) ∈ lw_all := lw_g (lw_at lw_m2 92 rfl) rfl
theorem q426 : (Jvm.Cond.instanceMethod ({ cls := "IntervalTree", name := "save", desc := "()I" } : Jvm.MethodName)) ∈ lw_all := lw_g (lw_at lw_m2 94 rfl) rfl
theorem q427 : (Jvm.Cond.selects "IntervalTree" ({ cls := "IntervalTree", name := "save", desc := "()I" } : Jvm.MethodName) ({ cls := "IntervalTree", name := "save", desc := "()I" } : Jvm.MethodName)) ∈ lw_all := lw_g (lw_at lw_m2 95 rfl) rfl
theorem q428 : (Jvm.Cond.code ({ cls := "IntervalTree", name := "save", desc := "()I" } : Jvm.MethodName) prog_1_method_99_code (1 : Nat) (Option.some Jvm.ClassFile.FieldType.int)) ∈ lw_all := lw_g (lw_at lw_m2 96 rfl) rfl
theorem q429 : (Jvm.Cond.static ({ cls := "IntervalTree", name := "lambda$save$12", desc := "(LIntervalTree$Node;)V" } : Jvm.MethodName)) ∈ lw_all := lw_g (lw_at lw_m2 97 rfl) rfl
theorem q430 : (Jvm.Cond.code ({ cls := "IntervalTree", name := "lambda$save$12", desc := "(LIntervalTree$Node;)V" } : Jvm.MethodName) prog_1_method_102_code (1 : Nat) (Option.none : Option Jvm.ClassFile.FieldType)) ∈ lw_all := lw_g (lw_at lw_m2 98 rfl) rfl
theorem q431 : (Jvm.Cond.privateMethod ({ cls := "IntervalTree", name := "saveNode", desc := "(LIntervalTree$Node;)V" } : Jvm.MethodName)) ∈ lw_tbl := lw_at lw_m2 99 rfl
theorem q432 : (Jvm.Cond.instanceMethod ({ cls := "IntervalTree", name := "saveNode", desc := "(LIntervalTree$Node;)V" } : Jvm.MethodName)) ∈ lw_all := lw_g (lw_at lw_m2 100 rfl) rfl
theorem q433 : (Jvm.Cond.code ({ cls := "IntervalTree", name := "saveNode", desc := "(LIntervalTree$Node;)V" } : Jvm.MethodName) prog_1_method_98_code (3 : Nat) (Option.none : Option Jvm.ClassFile.FieldType)) ∈ lw_all := lw_g (lw_at lw_m2 101 rfl) rfl
theorem q434 : (Jvm.Cond.methodLink "IntervalTree" (359 : Nat) ({ cls := "IntervalTree", name := "size", desc := "()I" } : Jvm.MethodName)) ∈ lw_all := lw_g (lw_at lw_m2 102 rfl) rfl
theorem q441 : (Jvm.Cond.instanceMethod ({ cls := "IntervalTree", name := "insert", desc := "(III)I" } : Jvm.MethodName)) ∈ lw_all := lw_g (lw_at lw_m2 109 rfl) rfl
theorem q442 : (Jvm.Cond.selects "IntervalTree" ({ cls := "IntervalTree", name := "insert", desc := "(III)I" } : Jvm.MethodName) ({ cls := "IntervalTree", name := "insert", desc := "(III)I" } : Jvm.MethodName)) ∈ lw_all := lw_g (lw_at lw_m2 110 rfl) rfl
theorem q443 : (Jvm.Cond.code ({ cls := "IntervalTree", name := "insert", desc := "(III)I" } : Jvm.MethodName) prog_1_method_19_code (5 : Nat) (Option.some Jvm.ClassFile.FieldType.int)) ∈ lw_all := lw_g (lw_at lw_m2 111 rfl) rfl
theorem q444 : (Jvm.Cond.methodLink "IntervalTree" (116 : Nat) ({ cls := "IntervalTree", name := "isBetween", desc := "(III)Z" } : Jvm.MethodName)) ∈ lw_all := lw_g (lw_at lw_m2 112 rfl) rfl
theorem q445 : (Jvm.Cond.static ({ cls := "IntervalTree", name := "isBetween", desc := "(III)Z" } : Jvm.MethodName)) ∈ lw_all := lw_g (lw_at lw_m2 113 rfl) rfl
theorem q446 : (Jvm.Cond.code ({ cls := "IntervalTree", name := "isBetween", desc := "(III)Z" } : Jvm.MethodName) prog_1_method_3_code (3 : Nat) (Option.some Jvm.ClassFile.FieldType.boolean)) ∈ lw_all := lw_g (lw_at lw_m2 114 rfl) rfl
theorem q447 : (Jvm.Cond.methodLink "IntervalTree" (179 : Nat) ({ cls := "IntervalTree", name := "check", desc := "(Z)V" } : Jvm.MethodName)) ∈ lw_all := lw_g (lw_at lw_m2 115 rfl) rfl
theorem q448 : (Jvm.Cond.static ({ cls := "IntervalTree", name := "check", desc := "(Z)V" } : Jvm.MethodName)) ∈ lw_all := lw_g (lw_at lw_m2 116 rfl) rfl
theorem q449 : (Jvm.Cond.code ({ cls := "IntervalTree", name := "check", desc := "(Z)V" } : Jvm.MethodName) prog_1_method_4_code (1 : Nat) (Option.none : Option Jvm.ClassFile.FieldType)) ∈ lw_all := lw_g (lw_at lw_m2 117 rfl) rfl
theorem q450 : (Jvm.Cond.classLink "IntervalTree" (100 : Nat) "java/lang/IllegalArgumentException") ∈ lw_all := lw_g (lw_at lw_m2 118 rfl) rfl
theorem q494 : (Jvm.Cond.stringRef "IntervalTree" (102 : Nat) "argument out of range") ∈ lw_tbl := lw_at lw_m2 162 rfl
theorem q495 : (Jvm.Cond.methodLink "IntervalTree" (104 : Nat) ({ cls := "java/lang/IllegalArgumentException", name := "<init>", desc := "(Ljava/lang/String;)V" } : Jvm.MethodName)) ∈ lw_all := lw_g (lw_at lw_m2 163 rfl) rfl
theorem q520 : (Jvm.Cond.classLink "IntervalTree" (216 : Nat) "java/lang/IllegalStateException") ∈ lw_all := lw_g (lw_at lw_m2 188 rfl) rfl
theorem q529 : (Jvm.Cond.stringRef "IntervalTree" (218 : Nat) "full") ∈ lw_tbl := lw_at lw_m2 197 rfl
theorem q530 : (Jvm.Cond.methodLink "IntervalTree" (220 : Nat) ({ cls := "java/lang/IllegalStateException", name := "<init>", desc := "(Ljava/lang/String;)V" } : Jvm.MethodName)) ∈ lw_all := lw_g (lw_at lw_m2 198 rfl) rfl
theorem q536 : (Jvm.Cond.methodLink "IntervalTree" (225 : Nat) ({ cls := "IntervalTree$Node", name := "<init>", desc := "(IIII)V" } : Jvm.MethodName)) ∈ lw_all := lw_g (lw_at lw_m2 204 rfl) rfl
theorem q541 : (Jvm.Cond.fieldLink "IntervalTree" (231 : Nat) "IntervalTree$Node" "id" "I") ∈ lw_all := lw_g (lw_at lw_m2 209 rfl) rfl
theorem q543 : (Jvm.Cond.fieldLink "IntervalTree" (107 : Nat) "IntervalTree$Node" "low" "I") ∈ lw_all := lw_g (lw_at lw_m2 211 rfl) rfl
theorem q545 : (Jvm.Cond.fieldLink "IntervalTree" (110 : Nat) "IntervalTree$Node" "high" "I") ∈ lw_all := lw_g (lw_at lw_m2 213 rfl) rfl
theorem q547 : (Jvm.Cond.fieldLink "IntervalTree" (134 : Nat) "IntervalTree$Node" "weight" "I") ∈ lw_all := lw_g (lw_at lw_m2 215 rfl) rfl
theorem q549 : (Jvm.Cond.fieldLink "IntervalTree" (141 : Nat) "IntervalTree$Node" "pending" "I") ∈ lw_all := lw_g (lw_at lw_m2 217 rfl) rfl
theorem q550 : (Jvm.Cond.fieldLink "IntervalTree" (191 : Nat) "IntervalTree$Node" "red" "Z") ∈ lw_all := lw_g (lw_at lw_m2 218 rfl) rfl
theorem q552 : (Jvm.Cond.fieldLink "IntervalTree" (129 : Nat) "IntervalTree$Node" "removed" "Z") ∈ lw_all := lw_g (lw_at lw_m2 220 rfl) rfl
theorem q553 : (Jvm.Cond.fieldLink "IntervalTree" (137 : Nat) "IntervalTree$Node" "parent" "LIntervalTree$Node;") ∈ lw_all := lw_g (lw_at lw_m2 221 rfl) rfl
theorem q555 : (Jvm.Cond.fieldLink "IntervalTree" (163 : Nat) "IntervalTree$Node" "left" "LIntervalTree$Node;") ∈ lw_all := lw_g (lw_at lw_m2 223 rfl) rfl
theorem q557 : (Jvm.Cond.fieldLink "IntervalTree" (170 : Nat) "IntervalTree$Node" "right" "LIntervalTree$Node;") ∈ lw_all := lw_g (lw_at lw_m2 225 rfl) rfl
theorem q559 : (Jvm.Cond.fieldLink "IntervalTree" (176 : Nat) "IntervalTree$Node" "live" "I") ∈ lw_all := lw_g (lw_at lw_m2 227 rfl) rfl
theorem q561 : (Jvm.Cond.fieldLink "IntervalTree" (298 : Nat) "IntervalTree$Node" "maxHigh" "I") ∈ lw_all := lw_g (lw_at lw_m2 229 rfl) rfl
theorem q563 : (Jvm.Cond.fieldLink "IntervalTree" (301 : Nat) "IntervalTree$Node" "maxWeight" "I") ∈ lw_all := lw_g (lw_at lw_m2 231 rfl) rfl
theorem q565 : (Jvm.Cond.fieldLink "IntervalTree" (157 : Nat) "IntervalTree$Node" "leastLow" "I") ∈ lw_all := lw_g (lw_at lw_m2 233 rfl) rfl
theorem q567 : (Jvm.Cond.fieldLink "IntervalTree" (154 : Nat) "IntervalTree$Node" "mostLow" "I") ∈ lw_all := lw_g (lw_at lw_m2 235 rfl) rfl
theorem q599 : (Jvm.Cond.methodLink "IntervalTree" (228 : Nat) ({ cls := "IntervalTree", name := "attach", desc := "(LIntervalTree$Node;)V" } : Jvm.MethodName)) ∈ lw_all := lw_g (lw_at lw_m3 27 rfl) rfl
theorem q600 : (Jvm.Cond.privateMethod ({ cls := "IntervalTree", name := "attach", desc := "(LIntervalTree$Node;)V" } : Jvm.MethodName)) ∈ lw_tbl := lw_at lw_m3 28 rfl
theorem q601 : (Jvm.Cond.instanceMethod ({ cls := "IntervalTree", name := "attach", desc := "(LIntervalTree$Node;)V" } : Jvm.MethodName)) ∈ lw_all := lw_g (lw_at lw_m3 29 rfl) rfl
theorem q602 : (Jvm.Cond.code ({ cls := "IntervalTree", name := "attach", desc := "(LIntervalTree$Node;)V" } : Jvm.MethodName) prog_1_method_18_code (4 : Nat) (Option.none : Option Jvm.ClassFile.FieldType)) ∈ lw_all := lw_g (lw_at lw_m3 30 rfl) rfl
theorem q603 : (Jvm.Cond.methodLink "IntervalTree" (201 : Nat) ({ cls := "IntervalTree$Node", name := "isBefore", desc := "(LIntervalTree$Node;)Z" } : Jvm.MethodName)) ∈ lw_all := lw_g (lw_at lw_m3 31 rfl) rfl
theorem q608 : (Jvm.Cond.methodLink "IntervalTree" (204 : Nat) ({ cls := "IntervalTree", name := "pullPath", desc := "(LIntervalTree$Node;)V" } : Jvm.MethodName)) ∈ lw_all := lw_g (lw_at lw_m3 36 rfl) rfl
theorem q609 : (Jvm.Cond.privateMethod ({ cls := "IntervalTree", name := "pullPath", desc := "(LIntervalTree$Node;)V" } : Jvm.MethodName)) ∈ lw_tbl := lw_at lw_m3 37 rfl
theorem q610 : (Jvm.Cond.instanceMethod ({ cls := "IntervalTree", name := "pullPath", desc := "(LIntervalTree$Node;)V" } : Jvm.MethodName)) ∈ lw_all := lw_g (lw_at lw_m3 38 rfl) rfl
theorem q611 : (Jvm.Cond.code ({ cls := "IntervalTree", name := "pullPath", desc := "(LIntervalTree$Node;)V" } : Jvm.MethodName) prog_1_method_10_code (3 : Nat) (Option.none : Option Jvm.ClassFile.FieldType)) ∈ lw_all := lw_g (lw_at lw_m3 39 rfl) rfl
theorem q612 : (Jvm.Cond.methodLink "IntervalTree" (207 : Nat) ({ cls := "IntervalTree", name := "repair", desc := "(LIntervalTree$Node;)V" } : Jvm.MethodName)) ∈ lw_all := lw_g (lw_at lw_m3 40 rfl) rfl
theorem q613 : (Jvm.Cond.privateMethod ({ cls := "IntervalTree", name := "repair", desc := "(LIntervalTree$Node;)V" } : Jvm.MethodName)) ∈ lw_tbl := lw_at lw_m3 41 rfl
theorem q614 : (Jvm.Cond.instanceMethod ({ cls := "IntervalTree", name := "repair", desc := "(LIntervalTree$Node;)V" } : Jvm.MethodName)) ∈ lw_all := lw_g (lw_at lw_m3 42 rfl) rfl
theorem q615 : (Jvm.Cond.code ({ cls := "IntervalTree", name := "repair", desc := "(LIntervalTree$Node;)V" } : Jvm.MethodName) prog_1_method_17_code (6 : Nat) (Option.none : Option Jvm.ClassFile.FieldType)) ∈ lw_all := lw_g (lw_at lw_m3 43 rfl) rfl
theorem q616 : (Jvm.Cond.methodLink "IntervalTree" (194 : Nat) ({ cls := "IntervalTree", name := "isRedNode", desc := "(LIntervalTree$Node;)Z" } : Jvm.MethodName)) ∈ lw_all := lw_g (lw_at lw_m3 44 rfl) rfl
theorem q617 : (Jvm.Cond.static ({ cls := "IntervalTree", name := "isRedNode", desc := "(LIntervalTree$Node;)Z" } : Jvm.MethodName)) ∈ lw_all := lw_g (lw_at lw_m3 45 rfl) rfl
theorem q618 : (Jvm.Cond.code ({ cls := "IntervalTree", name := "isRedNode", desc := "(LIntervalTree$Node;)Z" } : Jvm.MethodName) prog_1_method_16_code (1 : Nat) (Option.some Jvm.ClassFile.FieldType.boolean)) ∈ lw_all := lw_g (lw_at lw_m3 46 rfl) rfl
theorem q619 : (Jvm.Cond.methodLink "IntervalTree" (198 : Nat) ({ cls := "IntervalTree", name := "rotateUp", desc := "(LIntervalTree$Node;)V" } : Jvm.MethodName)) ∈ lw_all := lw_g (lw_at lw_m3 47 rfl) rfl
theorem q620 : (Jvm.Cond.privateMethod ({ cls := "IntervalTree", name := "rotateUp", desc := "(LIntervalTree$Node;)V" } : Jvm.MethodName)) ∈ lw_tbl := lw_at lw_m3 48 rfl
theorem q621 : (Jvm.Cond.instanceMethod ({ cls := "IntervalTree", name := "rotateUp", desc := "(LIntervalTree$Node;)V" } : Jvm.MethodName)) ∈ lw_all := lw_g (lw_at lw_m3 49 rfl) rfl
theorem q622 : (Jvm.Cond.code ({ cls := "IntervalTree", name := "rotateUp", desc := "(LIntervalTree$Node;)V" } : Jvm.MethodName) prog_1_method_15_code (3 : Nat) (Option.none : Option Jvm.ClassFile.FieldType)) ∈ lw_all := lw_g (lw_at lw_m3 50 rfl) rfl
theorem q623 : (Jvm.Cond.methodLink "IntervalTree" (187 : Nat) ({ cls := "IntervalTree", name := "replaceChild", desc := "(LIntervalTree$Node;LIntervalTree$Node;LIntervalTree$Node;)V" } : Jvm.MethodName)) ∈ lw_all := lw_g (lw_at lw_m3 51 rfl) rfl
theorem q624 : (Jvm.Cond.privateMethod ({ cls := "IntervalTree", name := "replaceChild", desc := "(LIntervalTree$Node;LIntervalTree$Node;LIntervalTree$Node;)V" } : Jvm.MethodName)) ∈ lw_tbl := lw_at lw_m3 52 rfl
theorem q625 : (Jvm.Cond.instanceMethod ({ cls := "IntervalTree", name := "replaceChild", desc := "(LIntervalTree$Node;LIntervalTree$Node;LIntervalTree$Node;)V" } : Jvm.MethodName)) ∈ lw_all := lw_g (lw_at lw_m3 53 rfl) rfl
theorem q626 : (Jvm.Cond.code ({ cls := "IntervalTree", name := "replaceChild", desc := "(LIntervalTree$Node;LIntervalTree$Node;LIntervalTree$Node;)V" } : Jvm.MethodName) prog_1_method_14_code (4 : Nat) (Option.none : Option Jvm.ClassFile.FieldType)) ∈ lw_all := lw_g (lw_at lw_m3 54 rfl) rfl
theorem q632 : (Jvm.Cond.instanceMethod ({ cls := "IntervalTree", name := "remove", desc := "(I)I" } : Jvm.MethodName)) ∈ lw_all := lw_g (lw_at lw_m3 60 rfl) rfl
theorem q633 : (Jvm.Cond.selects "IntervalTree" ({ cls := "IntervalTree", name := "remove", desc := "(I)I" } : Jvm.MethodName) ({ cls := "IntervalTree", name := "remove", desc := "(I)I" } : Jvm.MethodName)) ∈ lw_all := lw_g (lw_at lw_m3 61 rfl) rfl
theorem q634 : (Jvm.Cond.code ({ cls := "IntervalTree", name := "remove", desc := "(I)I" } : Jvm.MethodName) prog_1_method_22_code (2 : Nat) (Option.some Jvm.ClassFile.FieldType.int)) ∈ lw_all := lw_g (lw_at lw_m3 62 rfl) rfl
theorem q635 : (Jvm.Cond.methodLink "IntervalTree" (238 : Nat) ({ cls := "IntervalTree", name := "liveNode", desc := "(I)LIntervalTree$Node;" } : Jvm.MethodName)) ∈ lw_all := lw_g (lw_at lw_m3 63 rfl) rfl
theorem q636 : (Jvm.Cond.privateMethod ({ cls := "IntervalTree", name := "liveNode", desc := "(I)LIntervalTree$Node;" } : Jvm.MethodName)) ∈ lw_tbl := lw_at lw_m3 64 rfl
theorem q637 : (Jvm.Cond.instanceMethod ({ cls := "IntervalTree", name := "liveNode", desc := "(I)LIntervalTree$Node;" } : Jvm.MethodName)) ∈ lw_all := lw_g (lw_at lw_m3 65 rfl) rfl
theorem q638 : (Jvm.Cond.code ({ cls := "IntervalTree", name := "liveNode", desc := "(I)LIntervalTree$Node;" } : Jvm.MethodName) prog_1_method_7_code (3 : Nat) (Option.some (Jvm.ClassFile.FieldType.object "IntervalTree$Node"))) ∈ lw_all := lw_g (lw_at lw_m3 66 rfl) rfl
theorem q639 : (Jvm.Cond.methodLink "IntervalTree" (125 : Nat) ({ cls := "IntervalTree", name := "inTree", desc := "(I)LIntervalTree$Node;" } : Jvm.MethodName)) ∈ lw_all := lw_g (lw_at lw_m3 67 rfl) rfl
theorem q640 : (Jvm.Cond.privateMethod ({ cls := "IntervalTree", name := "inTree", desc := "(I)LIntervalTree$Node;" } : Jvm.MethodName)) ∈ lw_tbl := lw_at lw_m3 68 rfl
theorem q641 : (Jvm.Cond.instanceMethod ({ cls := "IntervalTree", name := "inTree", desc := "(I)LIntervalTree$Node;" } : Jvm.MethodName)) ∈ lw_all := lw_g (lw_at lw_m3 69 rfl) rfl
theorem q642 : (Jvm.Cond.code ({ cls := "IntervalTree", name := "inTree", desc := "(I)LIntervalTree$Node;" } : Jvm.MethodName) prog_1_method_6_code (2 : Nat) (Option.some (Jvm.ClassFile.FieldType.object "IntervalTree$Node"))) ∈ lw_all := lw_g (lw_at lw_m3 70 rfl) rfl
theorem q643 : (Jvm.Cond.classLink "IntervalTree" (120 : Nat) "java/util/NoSuchElementException") ∈ lw_all := lw_g (lw_at lw_m3 71 rfl) rfl
theorem q652 : (Jvm.Cond.stringRef "IntervalTree" (122 : Nat) "not in the tree") ∈ lw_tbl := lw_at lw_m3 80 rfl
theorem q653 : (Jvm.Cond.methodLink "IntervalTree" (124 : Nat) ({ cls := "java/util/NoSuchElementException", name := "<init>", desc := "(Ljava/lang/String;)V" } : Jvm.MethodName)) ∈ lw_all := lw_g (lw_at lw_m3 81 rfl) rfl
theorem q659 : (Jvm.Cond.stringRef "IntervalTree" (133 : Nat) "removed") ∈ lw_tbl := lw_at lw_m3 87 rfl
theorem q660 : (Jvm.Cond.methodLink "IntervalTree" (241 : Nat) ({ cls := "IntervalTree", name := "removeNode", desc := "(LIntervalTree$Node;)I" } : Jvm.MethodName)) ∈ lw_all := lw_g (lw_at lw_m3 88 rfl) rfl
theorem q661 : (Jvm.Cond.privateMethod ({ cls := "IntervalTree", name := "removeNode", desc := "(LIntervalTree$Node;)I" } : Jvm.MethodName)) ∈ lw_tbl := lw_at lw_m3 89 rfl
theorem q662 : (Jvm.Cond.instanceMethod ({ cls := "IntervalTree", name := "removeNode", desc := "(LIntervalTree$Node;)I" } : Jvm.MethodName)) ∈ lw_all := lw_g (lw_at lw_m3 90 rfl) rfl
theorem q663 : (Jvm.Cond.code ({ cls := "IntervalTree", name := "removeNode", desc := "(LIntervalTree$Node;)I" } : Jvm.MethodName) prog_1_method_21_code (2 : Nat) (Option.some Jvm.ClassFile.FieldType.int)) ∈ lw_all := lw_g (lw_at lw_m3 91 rfl) rfl
theorem q664 : (Jvm.Cond.methodLink "IntervalTree" (234 : Nat) ({ cls := "IntervalTree", name := "setRemoved", desc := "(LIntervalTree$Node;Z)V" } : Jvm.MethodName)) ∈ lw_all := lw_g (lw_at lw_m3 92 rfl) rfl
theorem q665 : (Jvm.Cond.privateMethod ({ cls := "IntervalTree", name := "setRemoved", desc := "(LIntervalTree$Node;Z)V" } : Jvm.MethodName)) ∈ lw_tbl := lw_at lw_m3 93 rfl
theorem q666 : (Jvm.Cond.instanceMethod ({ cls := "IntervalTree", name := "setRemoved", desc := "(LIntervalTree$Node;Z)V" } : Jvm.MethodName)) ∈ lw_all := lw_g (lw_at lw_m3 94 rfl) rfl
theorem q667 : (Jvm.Cond.code ({ cls := "IntervalTree", name := "setRemoved", desc := "(LIntervalTree$Node;Z)V" } : Jvm.MethodName) prog_1_method_20_code (3 : Nat) (Option.none : Option Jvm.ClassFile.FieldType)) ∈ lw_all := lw_g (lw_at lw_m3 95 rfl) rfl
theorem q668 : (Jvm.Cond.methodLink "IntervalTree" (144 : Nat) ({ cls := "IntervalTree", name := "pushPath", desc := "(LIntervalTree$Node;)V" } : Jvm.MethodName)) ∈ lw_all := lw_g (lw_at lw_m3 96 rfl) rfl
theorem q669 : (Jvm.Cond.privateMethod ({ cls := "IntervalTree", name := "pushPath", desc := "(LIntervalTree$Node;)V" } : Jvm.MethodName)) ∈ lw_tbl := lw_at lw_m3 97 rfl
theorem q670 : (Jvm.Cond.instanceMethod ({ cls := "IntervalTree", name := "pushPath", desc := "(LIntervalTree$Node;)V" } : Jvm.MethodName)) ∈ lw_all := lw_g (lw_at lw_m3 98 rfl) rfl
theorem q671 : (Jvm.Cond.code ({ cls := "IntervalTree", name := "pushPath", desc := "(LIntervalTree$Node;)V" } : Jvm.MethodName) prog_1_method_9_code (2 : Nat) (Option.none : Option Jvm.ClassFile.FieldType)) ∈ lw_all := lw_g (lw_at lw_m3 99 rfl) rfl
theorem q676 : (Jvm.Cond.instanceMethod ({ cls := "IntervalTree", name := "restore", desc := "(I)I" } : Jvm.MethodName)) ∈ lw_all := lw_g (lw_at lw_m3 104 rfl) rfl
theorem q677 : (Jvm.Cond.selects "IntervalTree" ({ cls := "IntervalTree", name := "restore", desc := "(I)I" } : Jvm.MethodName) ({ cls := "IntervalTree", name := "restore", desc := "(I)I" } : Jvm.MethodName)) ∈ lw_all := lw_g (lw_at lw_m3 105 rfl) rfl
theorem q678 : (Jvm.Cond.code ({ cls := "IntervalTree", name := "restore", desc := "(I)I" } : Jvm.MethodName) prog_1_method_23_code (3 : Nat) (Option.some Jvm.ClassFile.FieldType.int)) ∈ lw_all := lw_g (lw_at lw_m3 106 rfl) rfl
theorem q679 : (Jvm.Cond.stringRef "IntervalTree" (245 : Nat) "never inserted") ∈ lw_tbl := lw_at lw_m3 107 rfl
theorem q680 : (Jvm.Cond.stringRef "IntervalTree" (247 : Nat) "live or gone") ∈ lw_tbl := lw_at lw_m3 108 rfl
theorem q685 : (Jvm.Cond.instanceMethod ({ cls := "IntervalTree", name := "setRebuildPercentage", desc := "(I)I" } : Jvm.MethodName)) ∈ lw_all := lw_g (lw_at lw_m3 113 rfl) rfl
theorem q686 : (Jvm.Cond.selects "IntervalTree" ({ cls := "IntervalTree", name := "setRebuildPercentage", desc := "(I)I" } : Jvm.MethodName) ({ cls := "IntervalTree", name := "setRebuildPercentage", desc := "(I)I" } : Jvm.MethodName)) ∈ lw_all := lw_g (lw_at lw_m3 114 rfl) rfl
theorem q687 : (Jvm.Cond.code ({ cls := "IntervalTree", name := "setRebuildPercentage", desc := "(I)I" } : Jvm.MethodName) prog_1_method_30_code (3 : Nat) (Option.some Jvm.ClassFile.FieldType.int)) ∈ lw_all := lw_g (lw_at lw_m3 115 rfl) rfl
theorem q692 : (Jvm.Cond.instanceMethod ({ cls := "IntervalTree", name := "addWeight", desc := "(III)I" } : Jvm.MethodName)) ∈ lw_all := lw_g (lw_at lw_m3 120 rfl) rfl
theorem q693 : (Jvm.Cond.selects "IntervalTree" ({ cls := "IntervalTree", name := "addWeight", desc := "(III)I" } : Jvm.MethodName) ({ cls := "IntervalTree", name := "addWeight", desc := "(III)I" } : Jvm.MethodName)) ∈ lw_all := lw_g (lw_at lw_m3 121 rfl) rfl
theorem q694 : (Jvm.Cond.code ({ cls := "IntervalTree", name := "addWeight", desc := "(III)I" } : Jvm.MethodName) prog_1_method_13_code (4 : Nat) (Option.some Jvm.ClassFile.FieldType.int)) ∈ lw_all := lw_g (lw_at lw_m3 122 rfl) rfl
theorem q695 : (Jvm.Cond.methodLink "IntervalTree" (166 : Nat) ({ cls := "IntervalTree", name := "addInRange", desc := "(LIntervalTree$Node;III)V" } : Jvm.MethodName)) ∈ lw_all := lw_g (lw_at lw_m3 123 rfl) rfl
theorem q696 : (Jvm.Cond.privateMethod ({ cls := "IntervalTree", name := "addInRange", desc := "(LIntervalTree$Node;III)V" } : Jvm.MethodName)) ∈ lw_tbl := lw_at lw_m3 124 rfl
theorem q697 : (Jvm.Cond.instanceMethod ({ cls := "IntervalTree", name := "addInRange", desc := "(LIntervalTree$Node;III)V" } : Jvm.MethodName)) ∈ lw_all := lw_g (lw_at lw_m3 125 rfl) rfl
theorem q698 : (Jvm.Cond.code ({ cls := "IntervalTree", name := "addInRange", desc := "(LIntervalTree$Node;III)V" } : Jvm.MethodName) prog_1_method_11_code (5 : Nat) (Option.none : Option Jvm.ClassFile.FieldType)) ∈ lw_all := lw_g (lw_at lw_m3 126 rfl) rfl
theorem q699 : (Jvm.Cond.methodLink "IntervalTree" (160 : Nat) ({ cls := "IntervalTree$Node", name := "add", desc := "(I)V" } : Jvm.MethodName)) ∈ lw_all := lw_g (lw_at lw_m3 127 rfl) rfl
theorem q700 : (Jvm.Cond.methodLink "IntervalTree" (183 : Nat) ({ cls := "IntervalTree", name := "countBelow", desc := "(J)I" } : Jvm.MethodName)) ∈ lw_all := lw_g (lw_at lw_m3 128 rfl) rfl
theorem q701 : (Jvm.Cond.privateMethod ({ cls := "IntervalTree", name := "countBelow", desc := "(J)I" } : Jvm.MethodName)) ∈ lw_tbl := lw_at lw_m3 129 rfl
theorem q702 : (Jvm.Cond.instanceMethod ({ cls := "IntervalTree", name := "countBelow", desc := "(J)I" } : Jvm.MethodName)) ∈ lw_all := lw_g (lw_at lw_m3 130 rfl) rfl
theorem q703 : (Jvm.Cond.code ({ cls := "IntervalTree", name := "countBelow", desc := "(J)I" } : Jvm.MethodName) prog_1_method_12_code (5 : Nat) (Option.some Jvm.ClassFile.FieldType.int)) ∈ lw_all := lw_g (lw_at lw_m3 131 rfl) rfl
theorem q708 : (Jvm.Cond.instanceMethod ({ cls := "IntervalTree", name := "state", desc := "(I)I" } : Jvm.MethodName)) ∈ lw_all := lw_g (lw_at lw_m3 136 rfl) rfl
theorem q709 : (Jvm.Cond.selects "IntervalTree" ({ cls := "IntervalTree", name := "state", desc := "(I)I" } : Jvm.MethodName) ({ cls := "IntervalTree", name := "state", desc := "(I)I" } : Jvm.MethodName)) ∈ lw_all := lw_g (lw_at lw_m3 137 rfl) rfl
theorem q710 : (Jvm.Cond.code ({ cls := "IntervalTree", name := "state", desc := "(I)I" } : Jvm.MethodName) prog_1_method_37_code (3 : Nat) (Option.some Jvm.ClassFile.FieldType.int)) ∈ lw_all := lw_g (lw_at lw_m3 138 rfl) rfl
theorem q715 : (Jvm.Cond.instanceMethod ({ cls := "IntervalTree", name := "low", desc := "(I)I" } : Jvm.MethodName)) ∈ lw_all := lw_g (lw_at lw_m3 143 rfl) rfl
theorem q716 : (Jvm.Cond.selects "IntervalTree" ({ cls := "IntervalTree", name := "low", desc := "(I)I" } : Jvm.MethodName) ({ cls := "IntervalTree", name := "low", desc := "(I)I" } : Jvm.MethodName)) ∈ lw_all := lw_g (lw_at lw_m3 144 rfl) rfl
theorem q717 : (Jvm.Cond.code ({ cls := "IntervalTree", name := "low", desc := "(I)I" } : Jvm.MethodName) prog_1_method_38_code (2 : Nat) (Option.some Jvm.ClassFile.FieldType.int)) ∈ lw_all := lw_g (lw_at lw_m3 145 rfl) rfl
theorem q722 : (Jvm.Cond.instanceMethod ({ cls := "IntervalTree", name := "high", desc := "(I)I" } : Jvm.MethodName)) ∈ lw_all := lw_g (lw_at lw_m3 150 rfl) rfl
theorem q723 : (Jvm.Cond.selects "IntervalTree" ({ cls := "IntervalTree", name := "high", desc := "(I)I" } : Jvm.MethodName) ({ cls := "IntervalTree", name := "high", desc := "(I)I" } : Jvm.MethodName)) ∈ lw_all := lw_g (lw_at lw_m3 151 rfl) rfl
theorem q724 : (Jvm.Cond.code ({ cls := "IntervalTree", name := "high", desc := "(I)I" } : Jvm.MethodName) prog_1_method_39_code (2 : Nat) (Option.some Jvm.ClassFile.FieldType.int)) ∈ lw_all := lw_g (lw_at lw_m3 152 rfl) rfl
theorem q729 : (Jvm.Cond.instanceMethod ({ cls := "IntervalTree", name := "weight", desc := "(I)I" } : Jvm.MethodName)) ∈ lw_all := lw_g (lw_at lw_m3 157 rfl) rfl
theorem q730 : (Jvm.Cond.selects "IntervalTree" ({ cls := "IntervalTree", name := "weight", desc := "(I)I" } : Jvm.MethodName) ({ cls := "IntervalTree", name := "weight", desc := "(I)I" } : Jvm.MethodName)) ∈ lw_all := lw_g (lw_at lw_m3 158 rfl) rfl
theorem q731 : (Jvm.Cond.code ({ cls := "IntervalTree", name := "weight", desc := "(I)I" } : Jvm.MethodName) prog_1_method_40_code (2 : Nat) (Option.some Jvm.ClassFile.FieldType.int)) ∈ lw_all := lw_g (lw_at lw_m3 159 rfl) rfl
theorem q732 : (Jvm.Cond.methodLink "IntervalTree" (287 : Nat) ({ cls := "IntervalTree", name := "weightOf", desc := "(LIntervalTree$Node;)I" } : Jvm.MethodName)) ∈ lw_all := lw_g (lw_at lw_m3 160 rfl) rfl
theorem q737 : (Jvm.Cond.instanceMethod ({ cls := "IntervalTree", name := "parent", desc := "(I)I" } : Jvm.MethodName)) ∈ lw_all := lw_g (lw_at lw_m3 165 rfl) rfl
theorem q738 : (Jvm.Cond.selects "IntervalTree" ({ cls := "IntervalTree", name := "parent", desc := "(I)I" } : Jvm.MethodName) ({ cls := "IntervalTree", name := "parent", desc := "(I)I" } : Jvm.MethodName)) ∈ lw_all := lw_g (lw_at lw_m3 166 rfl) rfl
theorem q739 : (Jvm.Cond.code ({ cls := "IntervalTree", name := "parent", desc := "(I)I" } : Jvm.MethodName) prog_1_method_42_code (2 : Nat) (Option.some Jvm.ClassFile.FieldType.int)) ∈ lw_all := lw_g (lw_at lw_m3 167 rfl) rfl
theorem q744 : (Jvm.Cond.instanceMethod ({ cls := "IntervalTree", name := "child", desc := "(IZ)I" } : Jvm.MethodName)) ∈ lw_all := lw_g (lw_at lw_m3 172 rfl) rfl
theorem q745 : (Jvm.Cond.selects "IntervalTree" ({ cls := "IntervalTree", name := "child", desc := "(IZ)I" } : Jvm.MethodName) ({ cls := "IntervalTree", name := "child", desc := "(IZ)I" } : Jvm.MethodName)) ∈ lw_all := lw_g (lw_at lw_m3 173 rfl) rfl
theorem q746 : (Jvm.Cond.code ({ cls := "IntervalTree", name := "child", desc := "(IZ)I" } : Jvm.MethodName) prog_1_method_43_code (4 : Nat) (Option.some Jvm.ClassFile.FieldType.int)) ∈ lw_all := lw_g (lw_at lw_m3 174 rfl) rfl
theorem q751 : (Jvm.Cond.instanceMethod ({ cls := "IntervalTree", name := "isRed", desc := "(I)Z" } : Jvm.MethodName)) ∈ lw_all := lw_g (lw_at lw_m3 179 rfl) rfl
theorem q752 : (Jvm.Cond.selects "IntervalTree" ({ cls := "IntervalTree", name := "isRed", desc := "(I)Z" } : Jvm.MethodName) ({ cls := "IntervalTree", name := "isRed", desc := "(I)Z" } : Jvm.MethodName)) ∈ lw_all := lw_g (lw_at lw_m3 180 rfl) rfl
theorem q753 : (Jvm.Cond.code ({ cls := "IntervalTree", name := "isRed", desc := "(I)Z" } : Jvm.MethodName) prog_1_method_44_code (2 : Nat) (Option.some Jvm.ClassFile.FieldType.boolean)) ∈ lw_all := lw_g (lw_at lw_m3 181 rfl) rfl
theorem q758 : (Jvm.Cond.instanceMethod ({ cls := "IntervalTree", name := "subtreeSize", desc := "(I)I" } : Jvm.MethodName)) ∈ lw_all := lw_g (lw_at lw_m3 186 rfl) rfl
theorem q759 : (Jvm.Cond.selects "IntervalTree" ({ cls := "IntervalTree", name := "subtreeSize", desc := "(I)I" } : Jvm.MethodName) ({ cls := "IntervalTree", name := "subtreeSize", desc := "(I)I" } : Jvm.MethodName)) ∈ lw_all := lw_g (lw_at lw_m3 187 rfl) rfl
theorem q760 : (Jvm.Cond.code ({ cls := "IntervalTree", name := "subtreeSize", desc := "(I)I" } : Jvm.MethodName) prog_1_method_45_code (2 : Nat) (Option.some Jvm.ClassFile.FieldType.int)) ∈ lw_all := lw_g (lw_at lw_m3 188 rfl) rfl
theorem q765 : (Jvm.Cond.instanceMethod ({ cls := "IntervalTree", name := "subtreeHigh", desc := "(I)I" } : Jvm.MethodName)) ∈ lw_all := lw_g (lw_at lw_m3 193 rfl) rfl
theorem q766 : (Jvm.Cond.selects "IntervalTree" ({ cls := "IntervalTree", name := "subtreeHigh", desc := "(I)I" } : Jvm.MethodName) ({ cls := "IntervalTree", name := "subtreeHigh", desc := "(I)I" } : Jvm.MethodName)) ∈ lw_all := lw_g (lw_at lw_m3 194 rfl) rfl
theorem q767 : (Jvm.Cond.code ({ cls := "IntervalTree", name := "subtreeHigh", desc := "(I)I" } : Jvm.MethodName) prog_1_method_47_code (2 : Nat) (Option.some Jvm.ClassFile.FieldType.int)) ∈ lw_all := lw_g (lw_at lw_m3 195 rfl) rfl
theorem q768 : (Jvm.Cond.methodLink "IntervalTree" (295 : Nat) ({ cls := "IntervalTree", name := "withLive", desc := "(I)LIntervalTree$Node;" } : Jvm.MethodName)) ∈ lw_all := lw_g (lw_at lw_m3 196 rfl) rfl
theorem q769 : (Jvm.Cond.privateMethod ({ cls := "IntervalTree", name := "withLive", desc := "(I)LIntervalTree$Node;" } : Jvm.MethodName)) ∈ lw_tbl := lw_at lw_m3 197 rfl
theorem q770 : (Jvm.Cond.instanceMethod ({ cls := "IntervalTree", name := "withLive", desc := "(I)LIntervalTree$Node;" } : Jvm.MethodName)) ∈ lw_all := lw_g (lw_at lw_m3 198 rfl) rfl
theorem q771 : (Jvm.Cond.code ({ cls := "IntervalTree", name := "withLive", desc := "(I)LIntervalTree$Node;" } : Jvm.MethodName) prog_1_method_46_code (3 : Nat) (Option.some (Jvm.ClassFile.FieldType.object "IntervalTree$Node"))) ∈ lw_all := lw_g (lw_at lw_m3 199 rfl) rfl
theorem q772 : (Jvm.Cond.stringRef "IntervalTree" (293 : Nat) "no live interval") ∈ lw_tbl := lw_at lw_m3 200 rfl
theorem q777 : (Jvm.Cond.instanceMethod ({ cls := "IntervalTree", name := "subtreeWeight", desc := "(I)I" } : Jvm.MethodName)) ∈ lw_all := lw_g (lw_at lw_m3 205 rfl) rfl
theorem q778 : (Jvm.Cond.selects "IntervalTree" ({ cls := "IntervalTree", name := "subtreeWeight", desc := "(I)I" } : Jvm.MethodName) ({ cls := "IntervalTree", name := "subtreeWeight", desc := "(I)I" } : Jvm.MethodName)) ∈ lw_all := lw_g (lw_at lw_m3 206 rfl) rfl
theorem q779 : (Jvm.Cond.code ({ cls := "IntervalTree", name := "subtreeWeight", desc := "(I)I" } : Jvm.MethodName) prog_1_method_48_code (3 : Nat) (Option.some Jvm.ClassFile.FieldType.int)) ∈ lw_all := lw_g (lw_at lw_m3 207 rfl) rfl
theorem q784 : (Jvm.Cond.instanceMethod ({ cls := "IntervalTree", name := "heaviest", desc := "(II)I" } : Jvm.MethodName)) ∈ lw_all := lw_g (lw_at lw_m3 212 rfl) rfl
theorem q785 : (Jvm.Cond.selects "IntervalTree" ({ cls := "IntervalTree", name := "heaviest", desc := "(II)I" } : Jvm.MethodName) ({ cls := "IntervalTree", name := "heaviest", desc := "(II)I" } : Jvm.MethodName)) ∈ lw_all := lw_g (lw_at lw_m3 213 rfl) rfl
theorem q786 : (Jvm.Cond.code ({ cls := "IntervalTree", name := "heaviest", desc := "(II)I" } : Jvm.MethodName) prog_1_method_58_code (3 : Nat) (Option.some Jvm.ClassFile.FieldType.int)) ∈ lw_all := lw_g (lw_at lw_m3 214 rfl) rfl
theorem q787 : (Jvm.Cond.methodLink "IntervalTree" (337 : Nat) ({ cls := "IntervalTree", name := "ranked", desc := "(III)I" } : Jvm.MethodName)) ∈ lw_all := lw_g (lw_at lw_m3 215 rfl) rfl
theorem q788 : (Jvm.Cond.privateMethod ({ cls := "IntervalTree", name := "ranked", desc := "(III)I" } : Jvm.MethodName)) ∈ lw_tbl := lw_at lw_m3 216 rfl
theorem q789 : (Jvm.Cond.instanceMethod ({ cls := "IntervalTree", name := "ranked", desc := "(III)I" } : Jvm.MethodName)) ∈ lw_all := lw_g (lw_at lw_m3 217 rfl) rfl
theorem q790 : (Jvm.Cond.code ({ cls := "IntervalTree", name := "ranked", desc := "(III)I" } : Jvm.MethodName) prog_1_method_57_code (6 : Nat) (Option.some Jvm.ClassFile.FieldType.int)) ∈ lw_all := lw_g (lw_at lw_m3 218 rfl) rfl
theorem q791 : (Jvm.Cond.methodLink "IntervalTree" (333 : Nat) ({ cls := "IntervalTree", name := "heaviestIn", desc := "(LIntervalTree$Node;IILIntervalTree$Node;LIntervalTree$Node;)LIntervalTree$Node;" } : Jvm.MethodName)) ∈ lw_all := lw_g (lw_at lw_m3 219 rfl) rfl
theorem q792 : (Jvm.Cond.privateMethod ({ cls := "IntervalTree", name := "heaviestIn", desc := "(LIntervalTree$Node;IILIntervalTree$Node;LIntervalTree$Node;)LIntervalTree$Node;" } : Jvm.MethodName)) ∈ lw_tbl := lw_at lw_m3 220 rfl
theorem q793 : (Jvm.Cond.instanceMethod ({ cls := "IntervalTree", name := "heaviestIn", desc := "(LIntervalTree$Node;IILIntervalTree$Node;LIntervalTree$Node;)LIntervalTree$Node;" } : Jvm.MethodName)) ∈ lw_all := lw_g (lw_at lw_m3 221 rfl) rfl
theorem q794 : (Jvm.Cond.code ({ cls := "IntervalTree", name := "heaviestIn", desc := "(LIntervalTree$Node;IILIntervalTree$Node;LIntervalTree$Node;)LIntervalTree$Node;" } : Jvm.MethodName) prog_1_method_56_code (8 : Nat) (Option.some (Jvm.ClassFile.FieldType.object "IntervalTree$Node"))) ∈ lw_all := lw_g (lw_at lw_m3 222 rfl) rfl
theorem q795 : (Jvm.Cond.methodLink "IntervalTree" (325 : Nat) ({ cls := "IntervalTree", name := "isHeavier", desc := "(LIntervalTree$Node;LIntervalTree$Node;)Z" } : Jvm.MethodName)) ∈ lw_all := lw_g (lw_at lw_m3 223 rfl) rfl
theorem q796 : (Jvm.Cond.static ({ cls := "IntervalTree", name := "isHeavier", desc := "(LIntervalTree$Node;LIntervalTree$Node;)Z" } : Jvm.MethodName)) ∈ lw_all := lw_g (lw_at lw_m3 224 rfl) rfl
theorem q797 : (Jvm.Cond.code ({ cls := "IntervalTree", name := "isHeavier", desc := "(LIntervalTree$Node;LIntervalTree$Node;)Z" } : Jvm.MethodName) prog_1_method_55_code (2 : Nat) (Option.some Jvm.ClassFile.FieldType.boolean)) ∈ lw_all := lw_g (lw_at lw_m3 225 rfl) rfl
theorem q802 : (Jvm.Cond.instanceMethod ({ cls := "IntervalTree", name := "heaviestOverlap", desc := "(III)I" } : Jvm.MethodName)) ∈ lw_all := lw_g (lw_at lw_m3 230 rfl) rfl
theorem q803 : (Jvm.Cond.selects "IntervalTree" ({ cls := "IntervalTree", name := "heaviestOverlap", desc := "(III)I" } : Jvm.MethodName) ({ cls := "IntervalTree", name := "heaviestOverlap", desc := "(III)I" } : Jvm.MethodName)) ∈ lw_all := lw_g (lw_at lw_m3 231 rfl) rfl
theorem q804 : (Jvm.Cond.code ({ cls := "IntervalTree", name := "heaviestOverlap", desc := "(III)I" } : Jvm.MethodName) prog_1_method_59_code (4 : Nat) (Option.some Jvm.ClassFile.FieldType.int)) ∈ lw_all := lw_g (lw_at lw_m3 232 rfl) rfl
theorem q809 : (Jvm.Cond.instanceMethod ({ cls := "IntervalTree", name := "firstOverlap", desc := "(II)I" } : Jvm.MethodName)) ∈ lw_all := lw_g (lw_at lw_m3 237 rfl) rfl
theorem q810 : (Jvm.Cond.selects "IntervalTree" ({ cls := "IntervalTree", name := "firstOverlap", desc := "(II)I" } : Jvm.MethodName) ({ cls := "IntervalTree", name := "firstOverlap", desc := "(II)I" } : Jvm.MethodName)) ∈ lw_all := lw_g (lw_at lw_m3 238 rfl) rfl
theorem q811 : (Jvm.Cond.code ({ cls := "IntervalTree", name := "firstOverlap", desc := "(II)I" } : Jvm.MethodName) prog_1_method_61_code (3 : Nat) (Option.some Jvm.ClassFile.FieldType.int)) ∈ lw_all := lw_g (lw_at lw_m3 239 rfl) rfl
theorem q812 : (Jvm.Cond.methodLink "IntervalTree" (341 : Nat) ({ cls := "IntervalTree", name := "firstIn", desc := "(LIntervalTree$Node;II)LIntervalTree$Node;" } : Jvm.MethodName)) ∈ lw_all := lw_g (lw_at lw_m4 0 rfl) rfl
theorem q813 : (Jvm.Cond.static ({ cls := "IntervalTree", name := "firstIn", desc := "(LIntervalTree$Node;II)LIntervalTree$Node;" } : Jvm.MethodName)) ∈ lw_all := lw_g (lw_at lw_m4 1 rfl) rfl
theorem q814 : (Jvm.Cond.code ({ cls := "IntervalTree", name := "firstIn", desc := "(LIntervalTree$Node;II)LIntervalTree$Node;" } : Jvm.MethodName) prog_1_method_60_code (4 : Nat) (Option.some (Jvm.ClassFile.FieldType.object "IntervalTree$Node"))) ∈ lw_all := lw_g (lw_at lw_m4 2 rfl) rfl
theorem q819 : (Jvm.Cond.instanceMethod ({ cls := "IntervalTree", name := "rank", desc := "(I)I" } : Jvm.MethodName)) ∈ lw_all := lw_g (lw_at lw_m4 7 rfl) rfl
theorem q820 : (Jvm.Cond.selects "IntervalTree" ({ cls := "IntervalTree", name := "rank", desc := "(I)I" } : Jvm.MethodName) ({ cls := "IntervalTree", name := "rank", desc := "(I)I" } : Jvm.MethodName)) ∈ lw_all := lw_g (lw_at lw_m4 8 rfl) rfl
theorem q821 : (Jvm.Cond.code ({ cls := "IntervalTree", name := "rank", desc := "(I)I" } : Jvm.MethodName) prog_1_method_66_code (5 : Nat) (Option.some Jvm.ClassFile.FieldType.int)) ∈ lw_all := lw_g (lw_at lw_m4 9 rfl) rfl
theorem q850 : (Jvm.Cond.instanceMethod ({ cls := "IntervalTree", name := "select", desc := "(I)I" } : Jvm.MethodName)) ∈ lw_all := lw_g (lw_at lw_m4 38 rfl) rfl
theorem q851 : (Jvm.Cond.selects "IntervalTree" ({ cls := "IntervalTree", name := "select", desc := "(I)I" } : Jvm.MethodName) ({ cls := "IntervalTree", name := "select", desc := "(I)I" } : Jvm.MethodName)) ∈ lw_all := lw_g (lw_at lw_m4 39 rfl) rfl
theorem q852 : (Jvm.Cond.code ({ cls := "IntervalTree", name := "select", desc := "(I)I" } : Jvm.MethodName) prog_1_method_67_code (5 : Nat) (Option.some Jvm.ClassFile.FieldType.int)) ∈ lw_all := lw_g (lw_at lw_m4 40 rfl) rfl
theorem q853 : (Jvm.Cond.classLink "IntervalTree" (362 : Nat) "java/lang/IndexOutOfBoundsException") ∈ lw_all := lw_g (lw_at lw_m4 41 rfl) rfl
theorem q862 : (Jvm.Cond.stringRef "IntervalTree" (364 : Nat) "no such interval") ∈ lw_tbl := lw_at lw_m4 50 rfl
theorem q863 : (Jvm.Cond.methodLink "IntervalTree" (366 : Nat) ({ cls := "java/lang/IndexOutOfBoundsException", name := "<init>", desc := "(Ljava/lang/String;)V" } : Jvm.MethodName)) ∈ lw_all := lw_g (lw_at lw_m4 51 rfl) rfl
theorem q870 : (Jvm.Cond.instanceMethod ({ cls := "IntervalTree", name := "nearest", desc := "(I)I" } : Jvm.MethodName)) ∈ lw_all := lw_g (lw_at lw_m4 58 rfl) rfl
theorem q871 : (Jvm.Cond.selects "IntervalTree" ({ cls := "IntervalTree", name := "nearest", desc := "(I)I" } : Jvm.MethodName) ({ cls := "IntervalTree", name := "nearest", desc := "(I)I" } : Jvm.MethodName)) ∈ lw_all := lw_g (lw_at lw_m4 59 rfl) rfl
theorem q872 : (Jvm.Cond.code ({ cls := "IntervalTree", name := "nearest", desc := "(I)I" } : Jvm.MethodName) prog_1_method_69_code (2 : Nat) (Option.some Jvm.ClassFile.FieldType.int)) ∈ lw_all := lw_g (lw_at lw_m4 60 rfl) rfl
theorem q873 : (Jvm.Cond.privateMethod ({ cls := "IntervalTree", name := "lambda$nearest$6", desc := "(ILIntervalTree$Node;)V" } : Jvm.MethodName)) ∈ lw_tbl := lw_at lw_m4 61 rfl
theorem q874 : (Jvm.Cond.instanceMethod ({ cls := "IntervalTree", name := "lambda$nearest$6", desc := "(ILIntervalTree$Node;)V" } : Jvm.MethodName)) ∈ lw_all := lw_g (lw_at lw_m4 62 rfl) rfl
theorem q875 : (Jvm.Cond.code ({ cls := "IntervalTree", name := "lambda$nearest$6", desc := "(ILIntervalTree$Node;)V" } : Jvm.MethodName) prog_1_method_108_code (3 : Nat) (Option.none : Option Jvm.ClassFile.FieldType)) ∈ lw_all := lw_g (lw_at lw_m4 63 rfl) rfl
theorem q876 : (Jvm.Cond.methodLink "IntervalTree" (500 : Nat) ({ cls := "IntervalTree", name := "consider", desc := "(LIntervalTree$Node;I)V" } : Jvm.MethodName)) ∈ lw_all := lw_g (lw_at lw_m4 64 rfl) rfl
theorem q877 : (Jvm.Cond.privateMethod ({ cls := "IntervalTree", name := "consider", desc := "(LIntervalTree$Node;I)V" } : Jvm.MethodName)) ∈ lw_tbl := lw_at lw_m4 65 rfl
theorem q878 : (Jvm.Cond.instanceMethod ({ cls := "IntervalTree", name := "consider", desc := "(LIntervalTree$Node;I)V" } : Jvm.MethodName)) ∈ lw_all := lw_g (lw_at lw_m4 66 rfl) rfl
theorem q879 : (Jvm.Cond.code ({ cls := "IntervalTree", name := "consider", desc := "(LIntervalTree$Node;I)V" } : Jvm.MethodName) prog_1_method_68_code (4 : Nat) (Option.none : Option Jvm.ClassFile.FieldType)) ∈ lw_all := lw_g (lw_at lw_m4 67 rfl) rfl
theorem q884 : (Jvm.Cond.instanceMethod ({ cls := "IntervalTree", name := "covered", desc := "(II)I" } : Jvm.MethodName)) ∈ lw_all := lw_g (lw_at lw_m4 72 rfl) rfl
theorem q885 : (Jvm.Cond.selects "IntervalTree" ({ cls := "IntervalTree", name := "covered", desc := "(II)I" } : Jvm.MethodName) ({ cls := "IntervalTree", name := "covered", desc := "(II)I" } : Jvm.MethodName)) ∈ lw_all := lw_g (lw_at lw_m4 73 rfl) rfl
theorem q886 : (Jvm.Cond.code ({ cls := "IntervalTree", name := "covered", desc := "(II)I" } : Jvm.MethodName) prog_1_method_70_code (8 : Nat) (Option.some Jvm.ClassFile.FieldType.int)) ∈ lw_all := lw_g (lw_at lw_m4 74 rfl) rfl
theorem q887 : (Jvm.Cond.methodLink "IntervalTree" (376 : Nat) ({ cls := "java/lang/Math", name := "min", desc := "(II)I" } : Jvm.MethodName)) ∈ lw_all := lw_g (lw_at lw_m4 75 rfl) rfl
theorem q894 : (Jvm.Cond.instanceMethod ({ cls := "IntervalTree", name := "deepestPoint", desc := "()I" } : Jvm.MethodName)) ∈ lw_all := lw_g (lw_at lw_m4 82 rfl) rfl
theorem q895 : (Jvm.Cond.selects "IntervalTree" ({ cls := "IntervalTree", name := "deepestPoint", desc := "()I" } : Jvm.MethodName) ({ cls := "IntervalTree", name := "deepestPoint", desc := "()I" } : Jvm.MethodName)) ∈ lw_all := lw_g (lw_at lw_m4 83 rfl) rfl
theorem q896 : (Jvm.Cond.code ({ cls := "IntervalTree", name := "deepestPoint", desc := "()I" } : Jvm.MethodName) prog_1_method_71_code (5 : Nat) (Option.some Jvm.ClassFile.FieldType.int)) ∈ lw_all := lw_g (lw_at lw_m4 84 rfl) rfl
theorem q897 : (Jvm.Cond.stringRef "IntervalTree" (379 : Nat) "no intervals") ∈ lw_tbl := lw_at lw_m4 85 rfl
theorem q898 : (Jvm.Cond.methodLink "IntervalTree" (381 : Nat) ({ cls := "IntervalTree", name := "stabCount", desc := "(I)I" } : Jvm.MethodName)) ∈ lw_all := lw_g (lw_at lw_m4 86 rfl) rfl
theorem q903 : (Jvm.Cond.instanceMethod ({ cls := "IntervalTree", name := "scheduled", desc := "(I)I" } : Jvm.MethodName)) ∈ lw_all := lw_g (lw_at lw_m4 91 rfl) rfl
theorem q904 : (Jvm.Cond.selects "IntervalTree" ({ cls := "IntervalTree", name := "scheduled", desc := "(I)I" } : Jvm.MethodName) ({ cls := "IntervalTree", name := "scheduled", desc := "(I)I" } : Jvm.MethodName)) ∈ lw_all := lw_g (lw_at lw_m4 92 rfl) rfl
theorem q905 : (Jvm.Cond.code ({ cls := "IntervalTree", name := "scheduled", desc := "(I)I" } : Jvm.MethodName) prog_1_method_75_code (4 : Nat) (Option.some Jvm.ClassFile.FieldType.int)) ∈ lw_all := lw_g (lw_at lw_m4 93 rfl) rfl
theorem q906 : (Jvm.Cond.stringRef "IntervalTree" (388 : Nat) "no such position") ∈ lw_tbl := lw_at lw_m4 94 rfl
theorem q911 : (Jvm.Cond.instanceMethod ({ cls := "IntervalTree", name := "piercingPoint", desc := "(I)I" } : Jvm.MethodName)) ∈ lw_all := lw_g (lw_at lw_m4 99 rfl) rfl
theorem q912 : (Jvm.Cond.selects "IntervalTree" ({ cls := "IntervalTree", name := "piercingPoint", desc := "(I)I" } : Jvm.MethodName) ({ cls := "IntervalTree", name := "piercingPoint", desc := "(I)I" } : Jvm.MethodName)) ∈ lw_all := lw_g (lw_at lw_m4 100 rfl) rfl
theorem q913 : (Jvm.Cond.code ({ cls := "IntervalTree", name := "piercingPoint", desc := "(I)I" } : Jvm.MethodName) prog_1_method_76_code (6 : Nat) (Option.some Jvm.ClassFile.FieldType.int)) ∈ lw_all := lw_g (lw_at lw_m4 101 rfl) rfl
theorem q918 : (Jvm.Cond.instanceMethod ({ cls := "IntervalTree", name := "addRangeFilter", desc := "(III)I" } : Jvm.MethodName)) ∈ lw_all := lw_g (lw_at lw_m4 106 rfl) rfl
theorem q919 : (Jvm.Cond.selects "IntervalTree" ({ cls := "IntervalTree", name := "addRangeFilter", desc := "(III)I" } : Jvm.MethodName) ({ cls := "IntervalTree", name := "addRangeFilter", desc := "(III)I" } : Jvm.MethodName)) ∈ lw_all := lw_g (lw_at lw_m4 107 rfl) rfl
theorem q920 : (Jvm.Cond.code ({ cls := "IntervalTree", name := "addRangeFilter", desc := "(III)I" } : Jvm.MethodName) prog_1_method_85_code (5 : Nat) (Option.some Jvm.ClassFile.FieldType.int)) ∈ lw_all := lw_g (lw_at lw_m4 108 rfl) rfl
theorem q921 : (Jvm.Cond.methodLink "IntervalTree" (403 : Nat) ({ cls := "IntervalTree", name := "checkFilterSpace", desc := "()V" } : Jvm.MethodName)) ∈ lw_all := lw_g (lw_at lw_m4 109 rfl) rfl
theorem q922 : (Jvm.Cond.privateMethod ({ cls := "IntervalTree", name := "checkFilterSpace", desc := "()V" } : Jvm.MethodName)) ∈ lw_tbl := lw_at lw_m4 110 rfl
theorem q923 : (Jvm.Cond.instanceMethod ({ cls := "IntervalTree", name := "checkFilterSpace", desc := "()V" } : Jvm.MethodName)) ∈ lw_all := lw_g (lw_at lw_m4 111 rfl) rfl
theorem q924 : (Jvm.Cond.code ({ cls := "IntervalTree", name := "checkFilterSpace", desc := "()V" } : Jvm.MethodName) prog_1_method_82_code (1 : Nat) (Option.none : Option Jvm.ClassFile.FieldType)) ∈ lw_all := lw_g (lw_at lw_m4 112 rfl) rfl
theorem q925 : (Jvm.Cond.stringRef "IntervalTree" (401 : Nat) "too many filters") ∈ lw_tbl := lw_at lw_m4 113 rfl
theorem q926 : (Jvm.Cond.static ({ cls := "IntervalTree", name := "lambda$addRangeFilter$10", desc := "(LIntervalTree$Property;IILIntervalTree$Node;)Z" } : Jvm.MethodName)) ∈ lw_all := lw_g (lw_at lw_m4 114 rfl) rfl
theorem q927 : (Jvm.Cond.code ({ cls := "IntervalTree", name := "lambda$addRangeFilter$10", desc := "(LIntervalTree$Property;IILIntervalTree$Node;)Z" } : Jvm.MethodName) prog_1_method_104_code (4 : Nat) (Option.some Jvm.ClassFile.FieldType.boolean)) ∈ lw_all := lw_g (lw_at lw_m4 115 rfl) rfl
theorem q928 : (Jvm.Cond.interfaceEntry "IntervalTree" (498 : Nat)) ∈ lw_tbl := lw_at lw_m4 116 rfl
theorem q929 : (Jvm.Cond.methodLink "IntervalTree" (498 : Nat) ({ cls := "IntervalTree$Property", name := "of", desc := "(LIntervalTree$Node;)I" } : Jvm.MethodName)) ∈ lw_all := lw_g (lw_at lw_m4 117 rfl) rfl
theorem q932 : (Jvm.Cond.methodLink "IntervalTree" (409 : Nat) ({ cls := "IntervalTree", name := "addFilter", desc := "(LIntervalTree$Filter;)I" } : Jvm.MethodName)) ∈ lw_all := lw_g (lw_at lw_m4 120 rfl) rfl
theorem q933 : (Jvm.Cond.privateMethod ({ cls := "IntervalTree", name := "addFilter", desc := "(LIntervalTree$Filter;)I" } : Jvm.MethodName)) ∈ lw_tbl := lw_at lw_m4 121 rfl
theorem q934 : (Jvm.Cond.instanceMethod ({ cls := "IntervalTree", name := "addFilter", desc := "(LIntervalTree$Filter;)I" } : Jvm.MethodName)) ∈ lw_all := lw_g (lw_at lw_m4 122 rfl) rfl
theorem q935 : (Jvm.Cond.code ({ cls := "IntervalTree", name := "addFilter", desc := "(LIntervalTree$Filter;)I" } : Jvm.MethodName) prog_1_method_83_code (2 : Nat) (Option.some Jvm.ClassFile.FieldType.int)) ∈ lw_all := lw_g (lw_at lw_m4 123 rfl) rfl
theorem q940 : (Jvm.Cond.instanceMethod ({ cls := "IntervalTree", name := "addHeavierFilter", desc := "(I)I" } : Jvm.MethodName)) ∈ lw_all := lw_g (lw_at lw_m4 128 rfl) rfl
theorem q941 : (Jvm.Cond.selects "IntervalTree" ({ cls := "IntervalTree", name := "addHeavierFilter", desc := "(I)I" } : Jvm.MethodName) ({ cls := "IntervalTree", name := "addHeavierFilter", desc := "(I)I" } : Jvm.MethodName)) ∈ lw_all := lw_g (lw_at lw_m4 129 rfl) rfl
theorem q942 : (Jvm.Cond.code ({ cls := "IntervalTree", name := "addHeavierFilter", desc := "(I)I" } : Jvm.MethodName) prog_1_method_86_code (3 : Nat) (Option.some Jvm.ClassFile.FieldType.int)) ∈ lw_all := lw_g (lw_at lw_m4 130 rfl) rfl
theorem q943 : (Jvm.Cond.privateMethod ({ cls := "IntervalTree", name := "lambda$addHeavierFilter$11", desc := "(ILIntervalTree$Node;)Z" } : Jvm.MethodName)) ∈ lw_tbl := lw_at lw_m4 131 rfl
theorem q944 : (Jvm.Cond.instanceMethod ({ cls := "IntervalTree", name := "lambda$addHeavierFilter$11", desc := "(ILIntervalTree$Node;)Z" } : Jvm.MethodName)) ∈ lw_all := lw_g (lw_at lw_m4 132 rfl) rfl
theorem q945 : (Jvm.Cond.code ({ cls := "IntervalTree", name := "lambda$addHeavierFilter$11", desc := "(ILIntervalTree$Node;)Z" } : Jvm.MethodName) prog_1_method_103_code (3 : Nat) (Option.some Jvm.ClassFile.FieldType.boolean)) ∈ lw_all := lw_g (lw_at lw_m4 133 rfl) rfl
theorem q950 : (Jvm.Cond.instanceMethod ({ cls := "IntervalTree", name := "addCombinedFilter", desc := "(III)I" } : Jvm.MethodName)) ∈ lw_all := lw_g (lw_at lw_m4 138 rfl) rfl
theorem q951 : (Jvm.Cond.selects "IntervalTree" ({ cls := "IntervalTree", name := "addCombinedFilter", desc := "(III)I" } : Jvm.MethodName) ({ cls := "IntervalTree", name := "addCombinedFilter", desc := "(III)I" } : Jvm.MethodName)) ∈ lw_all := lw_g (lw_at lw_m4 139 rfl) rfl
theorem q952 : (Jvm.Cond.code ({ cls := "IntervalTree", name := "addCombinedFilter", desc := "(III)I" } : Jvm.MethodName) prog_1_method_87_code (6 : Nat) (Option.some Jvm.ClassFile.FieldType.int)) ∈ lw_all := lw_g (lw_at lw_m4 140 rfl) rfl
theorem q953 : (Jvm.Cond.methodLink "IntervalTree" (416 : Nat) ({ cls := "IntervalTree", name := "isFilter", desc := "(I)Z" } : Jvm.MethodName)) ∈ lw_all := lw_g (lw_at lw_m4 141 rfl) rfl
theorem q954 : (Jvm.Cond.privateMethod ({ cls := "IntervalTree", name := "isFilter", desc := "(I)Z" } : Jvm.MethodName)) ∈ lw_tbl := lw_at lw_m4 142 rfl
theorem q955 : (Jvm.Cond.instanceMethod ({ cls := "IntervalTree", name := "isFilter", desc := "(I)Z" } : Jvm.MethodName)) ∈ lw_all := lw_g (lw_at lw_m4 143 rfl) rfl
theorem q956 : (Jvm.Cond.code ({ cls := "IntervalTree", name := "isFilter", desc := "(I)Z" } : Jvm.MethodName) prog_1_method_84_code (2 : Nat) (Option.some Jvm.ClassFile.FieldType.boolean)) ∈ lw_all := lw_g (lw_at lw_m4 144 rfl) rfl
theorem q957 : (Jvm.Cond.methodLink "IntervalTree" (420 : Nat) ({ cls := "IntervalTree", name := "all", desc := "([LIntervalTree$Filter;)LIntervalTree$Filter;" } : Jvm.MethodName)) ∈ lw_all := lw_g (lw_at lw_m4 145 rfl) rfl
theorem q958 : (Jvm.Cond.static ({ cls := "IntervalTree", name := "all", desc := "([LIntervalTree$Filter;)LIntervalTree$Filter;" } : Jvm.MethodName)) ∈ lw_all := lw_g (lw_at lw_m4 146 rfl) rfl
theorem q959 : (Jvm.Cond.code ({ cls := "IntervalTree", name := "all", desc := "([LIntervalTree$Filter;)LIntervalTree$Filter;" } : Jvm.MethodName) prog_1_method_79_code (1 : Nat) (Option.some (Jvm.ClassFile.FieldType.object "IntervalTree$Filter"))) ∈ lw_all := lw_g (lw_at lw_m4 147 rfl) rfl
theorem q960 : (Jvm.Cond.static ({ cls := "IntervalTree", name := "lambda$all$7", desc := "([LIntervalTree$Filter;LIntervalTree$Node;)Z" } : Jvm.MethodName)) ∈ lw_all := lw_g (lw_at lw_m4 148 rfl) rfl
theorem q961 : (Jvm.Cond.code ({ cls := "IntervalTree", name := "lambda$all$7", desc := "([LIntervalTree$Filter;LIntervalTree$Node;)Z" } : Jvm.MethodName) prog_1_method_107_code (6 : Nat) (Option.some Jvm.ClassFile.FieldType.boolean)) ∈ lw_all := lw_g (lw_at lw_m4 149 rfl) rfl
theorem q962 : (Jvm.Cond.interfaceEntry "IntervalTree" (447 : Nat)) ∈ lw_tbl := lw_at lw_m4 150 rfl
theorem q963 : (Jvm.Cond.methodLink "IntervalTree" (447 : Nat) ({ cls := "IntervalTree$Filter", name := "accepts", desc := "(LIntervalTree$Node;)Z" } : Jvm.MethodName)) ∈ lw_all := lw_g (lw_at lw_m4 151 rfl) rfl
theorem q966 : (Jvm.Cond.methodLink "IntervalTree" (423 : Nat) ({ cls := "IntervalTree", name := "any", desc := "([LIntervalTree$Filter;)LIntervalTree$Filter;" } : Jvm.MethodName)) ∈ lw_all := lw_g (lw_at lw_m4 154 rfl) rfl
theorem q967 : (Jvm.Cond.static ({ cls := "IntervalTree", name := "any", desc := "([LIntervalTree$Filter;)LIntervalTree$Filter;" } : Jvm.MethodName)) ∈ lw_all := lw_g (lw_at lw_m4 155 rfl) rfl
theorem q968 : (Jvm.Cond.code ({ cls := "IntervalTree", name := "any", desc := "([LIntervalTree$Filter;)LIntervalTree$Filter;" } : Jvm.MethodName) prog_1_method_80_code (1 : Nat) (Option.some (Jvm.ClassFile.FieldType.object "IntervalTree$Filter"))) ∈ lw_all := lw_g (lw_at lw_m4 156 rfl) rfl
theorem q969 : (Jvm.Cond.static ({ cls := "IntervalTree", name := "lambda$any$8", desc := "([LIntervalTree$Filter;LIntervalTree$Node;)Z" } : Jvm.MethodName)) ∈ lw_all := lw_g (lw_at lw_m4 157 rfl) rfl
theorem q970 : (Jvm.Cond.code ({ cls := "IntervalTree", name := "lambda$any$8", desc := "([LIntervalTree$Filter;LIntervalTree$Node;)Z" } : Jvm.MethodName) prog_1_method_106_code (6 : Nat) (Option.some Jvm.ClassFile.FieldType.boolean)) ∈ lw_all := lw_g (lw_at lw_m4 158 rfl) rfl
theorem q971 : (Jvm.Cond.methodLink "IntervalTree" (426 : Nat) ({ cls := "IntervalTree", name := "not", desc := "(LIntervalTree$Filter;)LIntervalTree$Filter;" } : Jvm.MethodName)) ∈ lw_all := lw_g (lw_at lw_m4 159 rfl) rfl
theorem q972 : (Jvm.Cond.static ({ cls := "IntervalTree", name := "not", desc := "(LIntervalTree$Filter;)LIntervalTree$Filter;" } : Jvm.MethodName)) ∈ lw_all := lw_g (lw_at lw_m4 160 rfl) rfl
theorem q973 : (Jvm.Cond.code ({ cls := "IntervalTree", name := "not", desc := "(LIntervalTree$Filter;)LIntervalTree$Filter;" } : Jvm.MethodName) prog_1_method_81_code (1 : Nat) (Option.some (Jvm.ClassFile.FieldType.object "IntervalTree$Filter"))) ∈ lw_all := lw_g (lw_at lw_m4 161 rfl) rfl
theorem q974 : (Jvm.Cond.static ({ cls := "IntervalTree", name := "lambda$not$9", desc := "(LIntervalTree$Filter;LIntervalTree$Node;)Z" } : Jvm.MethodName)) ∈ lw_all := lw_g (lw_at lw_m4 162 rfl) rfl
theorem q975 : (Jvm.Cond.code ({ cls := "IntervalTree", name := "lambda$not$9", desc := "(LIntervalTree$Filter;LIntervalTree$Node;)Z" } : Jvm.MethodName) prog_1_method_105_code (2 : Nat) (Option.some Jvm.ClassFile.FieldType.boolean)) ∈ lw_all := lw_g (lw_at lw_m4 163 rfl) rfl
theorem q980 : (Jvm.Cond.instanceMethod ({ cls := "IntervalTree", name := "feed", desc := "(I)I" } : Jvm.MethodName)) ∈ lw_all := lw_g (lw_at lw_m4 168 rfl) rfl
theorem q981 : (Jvm.Cond.selects "IntervalTree" ({ cls := "IntervalTree", name := "feed", desc := "(I)I" } : Jvm.MethodName) ({ cls := "IntervalTree", name := "feed", desc := "(I)I" } : Jvm.MethodName)) ∈ lw_all := lw_g (lw_at lw_m4 169 rfl) rfl
theorem q982 : (Jvm.Cond.code ({ cls := "IntervalTree", name := "feed", desc := "(I)I" } : Jvm.MethodName) prog_1_method_88_code (2 : Nat) (Option.some Jvm.ClassFile.FieldType.int)) ∈ lw_all := lw_g (lw_at lw_m4 170 rfl) rfl
theorem q983 : (Jvm.Cond.stringRef "IntervalTree" (432 : Nat) "text buffer full") ∈ lw_tbl := lw_at lw_m4 171 rfl
theorem q988 : (Jvm.Cond.instanceMethod ({ cls := "IntervalTree", name := "parseFilter", desc := "()I" } : Jvm.MethodName)) ∈ lw_all := lw_g (lw_at lw_m4 176 rfl) rfl
theorem q989 : (Jvm.Cond.selects "IntervalTree" ({ cls := "IntervalTree", name := "parseFilter", desc := "()I" } : Jvm.MethodName) ({ cls := "IntervalTree", name := "parseFilter", desc := "()I" } : Jvm.MethodName)) ∈ lw_all := lw_g (lw_at lw_m4 177 rfl) rfl
theorem q990 : (Jvm.Cond.codeWith ({ cls := "IntervalTree", name := "parseFilter", desc := "()I" } : Jvm.MethodName) prog_1_method_89_code (4 : Nat) (Option.some Jvm.ClassFile.FieldType.int) [((4 : Nat), (20 : Nat), (27 : Nat), (442 : Nat)), ((4 : Nat), (20 : Nat), (43 : Nat), (0 : Nat)), ((27 : Nat), (36 : Nat), (43 : Nat), (0 : Nat))]) ∈ lw_all := lw_g (lw_at lw_m4 178 rfl) rfl
theorem q991 : (Jvm.Cond.classLink "IntervalTree" (442 : Nat) "IntervalTree$SyntaxError") ∈ lw_all := lw_g (lw_at lw_m4 179 rfl) rfl
theorem q992 : (Jvm.Cond.classLink "IntervalTree" (434 : Nat) "IntervalTree$Parser") ∈ lw_all := lw_g (lw_at lw_m4 180 rfl) rfl
theorem q994 : (Jvm.Cond.methodLinkNest "IntervalTree" (436 : Nat) ({ cls := "IntervalTree$Parser", name := "<init>", desc := "(LIntervalTree;)V" } : Jvm.MethodName) "IntervalTree") ∈ lw_tbl := lw_at lw_m4 182 rfl
theorem q1008 : (Jvm.Cond.methodLink "IntervalTree" (439 : Nat) ({ cls := "IntervalTree$Parser", name := "whole", desc := "()LIntervalTree$Filter;" } : Jvm.MethodName)) ∈ lw_all := lw_g (lw_at lw_m4 196 rfl) rfl
theorem q1056 : (Jvm.Cond.fieldLinkNest "IntervalTree" (444 : Nat) "IntervalTree$SyntaxError" "position" "I" "IntervalTree") ∈ lw_tbl := lw_at lw_m5 4 rfl
theorem q1185 : (Jvm.Cond.instanceMethod ({ cls := "IntervalTree", name := "matchCount", desc := "(I)I" } : Jvm.MethodName)) ∈ lw_all := lw_g (lw_at lw_m5 133 rfl) rfl
theorem q1186 : (Jvm.Cond.selects "IntervalTree" ({ cls := "IntervalTree", name := "matchCount", desc := "(I)I" } : Jvm.MethodName) ({ cls := "IntervalTree", name := "matchCount", desc := "(I)I" } : Jvm.MethodName)) ∈ lw_all := lw_g (lw_at lw_m5 134 rfl) rfl
theorem q1187 : (Jvm.Cond.code ({ cls := "IntervalTree", name := "matchCount", desc := "(I)I" } : Jvm.MethodName) prog_1_method_90_code (4 : Nat) (Option.some Jvm.ClassFile.FieldType.int)) ∈ lw_all := lw_g (lw_at lw_m5 135 rfl) rfl
theorem q1192 : (Jvm.Cond.instanceMethod ({ cls := "IntervalTree", name := "accepts", desc := "(II)Z" } : Jvm.MethodName)) ∈ lw_all := lw_g (lw_at lw_m5 140 rfl) rfl
theorem q1193 : (Jvm.Cond.selects "IntervalTree" ({ cls := "IntervalTree", name := "accepts", desc := "(II)Z" } : Jvm.MethodName) ({ cls := "IntervalTree", name := "accepts", desc := "(II)Z" } : Jvm.MethodName)) ∈ lw_all := lw_g (lw_at lw_m5 141 rfl) rfl
theorem q1194 : (Jvm.Cond.code ({ cls := "IntervalTree", name := "accepts", desc := "(II)Z" } : Jvm.MethodName) prog_1_method_91_code (3 : Nat) (Option.some Jvm.ClassFile.FieldType.boolean)) ∈ lw_all := lw_g (lw_at lw_m5 142 rfl) rfl
theorem q1199 : (Jvm.Cond.instanceMethod ({ cls := "IntervalTree", name := "open", desc := "(II)I" } : Jvm.MethodName)) ∈ lw_all := lw_g (lw_at lw_m5 147 rfl) rfl
theorem q1200 : (Jvm.Cond.selects "IntervalTree" ({ cls := "IntervalTree", name := "open", desc := "(II)I" } : Jvm.MethodName) ({ cls := "IntervalTree", name := "open", desc := "(II)I" } : Jvm.MethodName)) ∈ lw_all := lw_g (lw_at lw_m5 148 rfl) rfl
theorem q1201 : (Jvm.Cond.code ({ cls := "IntervalTree", name := "open", desc := "(II)I" } : Jvm.MethodName) prog_1_method_94_code (4 : Nat) (Option.some Jvm.ClassFile.FieldType.int)) ∈ lw_all := lw_g (lw_at lw_m5 149 rfl) rfl
theorem q1202 : (Jvm.Cond.methodLink "IntervalTree" (464 : Nat) ({ cls := "IntervalTree", name := "following", desc := "(LIntervalTree$Cursor;)LIntervalTree$Node;" } : Jvm.MethodName)) ∈ lw_all := lw_g (lw_at lw_m5 150 rfl) rfl
theorem q1203 : (Jvm.Cond.privateMethod ({ cls := "IntervalTree", name := "following", desc := "(LIntervalTree$Cursor;)LIntervalTree$Node;" } : Jvm.MethodName)) ∈ lw_tbl := lw_at lw_m5 151 rfl
theorem q1204 : (Jvm.Cond.instanceMethod ({ cls := "IntervalTree", name := "following", desc := "(LIntervalTree$Cursor;)LIntervalTree$Node;" } : Jvm.MethodName)) ∈ lw_all := lw_g (lw_at lw_m5 152 rfl) rfl
theorem q1205 : (Jvm.Cond.code ({ cls := "IntervalTree", name := "following", desc := "(LIntervalTree$Cursor;)LIntervalTree$Node;" } : Jvm.MethodName) prog_1_method_93_code (3 : Nat) (Option.some (Jvm.ClassFile.FieldType.object "IntervalTree$Node"))) ∈ lw_all := lw_g (lw_at lw_m5 153 rfl) rfl
theorem q1210 : (Jvm.Cond.instanceMethod ({ cls := "IntervalTree", name := "hasNext", desc := "(I)Z" } : Jvm.MethodName)) ∈ lw_all := lw_g (lw_at lw_m5 158 rfl) rfl
theorem q1211 : (Jvm.Cond.selects "IntervalTree" ({ cls := "IntervalTree", name := "hasNext", desc := "(I)Z" } : Jvm.MethodName) ({ cls := "IntervalTree", name := "hasNext", desc := "(I)Z" } : Jvm.MethodName)) ∈ lw_all := lw_g (lw_at lw_m5 159 rfl) rfl
theorem q1212 : (Jvm.Cond.code ({ cls := "IntervalTree", name := "hasNext", desc := "(I)Z" } : Jvm.MethodName) prog_1_method_95_code (2 : Nat) (Option.some Jvm.ClassFile.FieldType.boolean)) ∈ lw_all := lw_g (lw_at lw_m5 160 rfl) rfl
theorem q1213 : (Jvm.Cond.methodLink "IntervalTree" (468 : Nat) ({ cls := "IntervalTree", name := "cursor", desc := "(I)LIntervalTree$Cursor;" } : Jvm.MethodName)) ∈ lw_all := lw_g (lw_at lw_m5 161 rfl) rfl
theorem q1214 : (Jvm.Cond.privateMethod ({ cls := "IntervalTree", name := "cursor", desc := "(I)LIntervalTree$Cursor;" } : Jvm.MethodName)) ∈ lw_tbl := lw_at lw_m5 162 rfl
theorem q1215 : (Jvm.Cond.instanceMethod ({ cls := "IntervalTree", name := "cursor", desc := "(I)LIntervalTree$Cursor;" } : Jvm.MethodName)) ∈ lw_all := lw_g (lw_at lw_m5 163 rfl) rfl
theorem q1216 : (Jvm.Cond.code ({ cls := "IntervalTree", name := "cursor", desc := "(I)LIntervalTree$Cursor;" } : Jvm.MethodName) prog_1_method_92_code (2 : Nat) (Option.some (Jvm.ClassFile.FieldType.object "IntervalTree$Cursor"))) ∈ lw_all := lw_g (lw_at lw_m5 164 rfl) rfl
theorem q1217 : (Jvm.Cond.stringRef "IntervalTree" (452 : Nat) "closed") ∈ lw_tbl := lw_at lw_m5 165 rfl
theorem q1222 : (Jvm.Cond.instanceMethod ({ cls := "IntervalTree", name := "next", desc := "(I)I" } : Jvm.MethodName)) ∈ lw_all := lw_g (lw_at lw_m5 170 rfl) rfl
theorem q1223 : (Jvm.Cond.selects "IntervalTree" ({ cls := "IntervalTree", name := "next", desc := "(I)I" } : Jvm.MethodName) ({ cls := "IntervalTree", name := "next", desc := "(I)I" } : Jvm.MethodName)) ∈ lw_all := lw_g (lw_at lw_m5 171 rfl) rfl
theorem q1224 : (Jvm.Cond.code ({ cls := "IntervalTree", name := "next", desc := "(I)I" } : Jvm.MethodName) prog_1_method_96_code (4 : Nat) (Option.some Jvm.ClassFile.FieldType.int)) ∈ lw_all := lw_g (lw_at lw_m5 172 rfl) rfl
theorem q1225 : (Jvm.Cond.stringRef "IntervalTree" (472 : Nat) "no following interval") ∈ lw_tbl := lw_at lw_m5 173 rfl
theorem q1230 : (Jvm.Cond.instanceMethod ({ cls := "IntervalTree", name := "removeCurrent", desc := "(I)I" } : Jvm.MethodName)) ∈ lw_all := lw_g (lw_at lw_m5 178 rfl) rfl
theorem q1231 : (Jvm.Cond.selects "IntervalTree" ({ cls := "IntervalTree", name := "removeCurrent", desc := "(I)I" } : Jvm.MethodName) ({ cls := "IntervalTree", name := "removeCurrent", desc := "(I)I" } : Jvm.MethodName)) ∈ lw_all := lw_g (lw_at lw_m5 179 rfl) rfl
theorem q1232 : (Jvm.Cond.code ({ cls := "IntervalTree", name := "removeCurrent", desc := "(I)I" } : Jvm.MethodName) prog_1_method_97_code (3 : Nat) (Option.some Jvm.ClassFile.FieldType.int)) ∈ lw_all := lw_g (lw_at lw_m5 180 rfl) rfl
theorem q1233 : (Jvm.Cond.stringRef "IntervalTree" (474 : Nat) "no current interval") ∈ lw_tbl := lw_at lw_m5 181 rfl
theorem q1238 : (Jvm.Cond.instanceMethod ({ cls := "IntervalTree", name := "load", desc := "()I" } : Jvm.MethodName)) ∈ lw_all := lw_g (lw_at lw_m5 186 rfl) rfl
theorem q1239 : (Jvm.Cond.selects "IntervalTree" ({ cls := "IntervalTree", name := "load", desc := "()I" } : Jvm.MethodName) ({ cls := "IntervalTree", name := "load", desc := "()I" } : Jvm.MethodName)) ∈ lw_all := lw_g (lw_at lw_m5 187 rfl) rfl
theorem q1240 : (Jvm.Cond.code ({ cls := "IntervalTree", name := "load", desc := "()I" } : Jvm.MethodName) prog_1_method_101_code (2 : Nat) (Option.some Jvm.ClassFile.FieldType.int)) ∈ lw_all := lw_g (lw_at lw_m5 188 rfl) rfl
theorem q1241 : (Jvm.Cond.stringRef "IntervalTree" (496 : Nat) "nothing saved") ∈ lw_tbl := lw_at lw_m5 189 rfl
theorem q1242 : (Jvm.Cond.methodLink "IntervalTree" (492 : Nat) ({ cls := "IntervalTree", name := "loadNode", desc := "(ILIntervalTree$Node;)LIntervalTree$Node;" } : Jvm.MethodName)) ∈ lw_all := lw_g (lw_at lw_m5 190 rfl) rfl
theorem q1243 : (Jvm.Cond.privateMethod ({ cls := "IntervalTree", name := "loadNode", desc := "(ILIntervalTree$Node;)LIntervalTree$Node;" } : Jvm.MethodName)) ∈ lw_tbl := lw_at lw_m5 191 rfl
theorem q1244 : (Jvm.Cond.instanceMethod ({ cls := "IntervalTree", name := "loadNode", desc := "(ILIntervalTree$Node;)LIntervalTree$Node;" } : Jvm.MethodName)) ∈ lw_all := lw_g (lw_at lw_m5 192 rfl) rfl
theorem q1245 : (Jvm.Cond.code ({ cls := "IntervalTree", name := "loadNode", desc := "(ILIntervalTree$Node;)LIntervalTree$Node;" } : Jvm.MethodName) prog_1_method_100_code (4 : Nat) (Option.some (Jvm.ClassFile.FieldType.object "IntervalTree$Node"))) ∈ lw_all := lw_g (lw_at lw_m5 193 rfl) rfl
theorem q1794 : (Jvm.Cond.castable "IntervalTree" "java/lang/Object") ∈ lw_tbl := lw_at lw_m8 22 rfl
theorem in_X1 : ∀ w ∈ wsX10, w ∈ lw_all := lw_in wsX10 [217, 219, 221, 223, 225, 227, 229, 231, 233, 235, 237, 239, 241, 243, 245, 247, 249, 251, 253, 255, 257, 259, 261, 263, 265, 267, 269, 271, 273, 275, 277, 279, 281, 283] (by decide +kernel) (by decide +kernel)
