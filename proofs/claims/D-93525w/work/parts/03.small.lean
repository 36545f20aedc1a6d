theorem q125 : (Jvm.Cond.arrayOver (Jvm.ClassFile.FieldType.object "IntervalTree$Node")) ∈ lw_tbl := lw_at lw_m1 33 rfl
set_option maxRecDepth 100000
theorem q127 : (Jvm.Cond.arrayOver (Jvm.ClassFile.FieldType.object "IntervalTree$Filter")) ∈ lw_tbl := lw_at lw_m1 35 rfl
theorem q129 : (Jvm.Cond.arrayOver (Jvm.ClassFile.FieldType.object "IntervalTree$Property")) ∈ lw_tbl := lw_at lw_m1 37 rfl
theorem q131 : (Jvm.Cond.arrayOver (Jvm.ClassFile.FieldType.object "IntervalTree$Cursor")) ∈ lw_tbl := lw_at lw_m1 39 rfl
theorem q286 : (Jvm.Cond.arrayClass Jvm.ClassFile.FieldType.int) ∈ lw_all := lw_g (lw_at lw_m1 194 rfl) rfl
theorem q287 : (Jvm.Cond.arrayClass Jvm.ClassFile.FieldType.byte) ∈ lw_all := lw_g (lw_at lw_m1 195 rfl) rfl
theorem q288 : (Jvm.Cond.arrayClass Jvm.ClassFile.FieldType.boolean) ∈ lw_all := lw_g (lw_at lw_m1 196 rfl) rfl
theorem q1791 : (Jvm.Cond.arrayClass Jvm.ClassFile.FieldType.long) ∈ lw_all := lw_g (lw_at lw_m8 19 rfl) rfl

theorem q964 : (Jvm.Cond.interfaceMethod "IntervalTree$Filter" "IntervalTree$Filter" "accepts" "(LIntervalTree$Node;)Z") ∈ lw_tbl := lw_at lw_m4 152 rfl
set_option maxRecDepth 100000
theorem q965 : (Jvm.Cond.declares ({ cls := "IntervalTree$Filter", name := "accepts", desc := "(LIntervalTree$Node;)Z" } : Jvm.MethodName)) ∈ lw_tbl := lw_at lw_m4 153 rfl

theorem q930 : (Jvm.Cond.interfaceMethod "IntervalTree$Property" "IntervalTree$Property" "of" "(LIntervalTree$Node;)I") ∈ lw_tbl := lw_at lw_m4 118 rfl
set_option maxRecDepth 100000
theorem q931 : (Jvm.Cond.declares ({ cls := "IntervalTree$Property", name := "of", desc := "(LIntervalTree$Node;)I" } : Jvm.MethodName)) ∈ lw_tbl := lw_at lw_m4 119 rfl

theorem q322 : (Jvm.Cond.interfaceMethod "IntervalTree$Visitor" "IntervalTree$Visitor" "visit" "(LIntervalTree$Node;)V") ∈ lw_tbl := lw_at lw_m1 230 rfl
set_option maxRecDepth 100000
theorem q323 : (Jvm.Cond.declares ({ cls := "IntervalTree$Visitor", name := "visit", desc := "(LIntervalTree$Node;)V" } : Jvm.MethodName)) ∈ lw_tbl := lw_at lw_m1 231 rfl

/-! IntervalTree$Node -/
set_option maxRecDepth 100000
def RX4 : String := "IntervalTree$Node"
def TX4 : u_T := fun k => match k with
  | 0 => ("IntervalTree$Node", "id", "I", true)
  | 1 => ("IntervalTree$Node", "low", "I", true)
  | 2 => ("IntervalTree$Node", "high", "I", true)
  | 3 => ("IntervalTree$Node", "weight", "I", false)
  | 4 => ("IntervalTree$Node", "pending", "I", false)
  | 5 => ("IntervalTree$Node", "red", "Z", false)
  | 6 => ("IntervalTree$Node", "removed", "Z", false)
  | 7 => ("IntervalTree$Node", "parent", "LIntervalTree$Node;", false)
  | 8 => ("IntervalTree$Node", "left", "LIntervalTree$Node;", false)
  | 9 => ("IntervalTree$Node", "right", "LIntervalTree$Node;", false)
  | 10 => ("IntervalTree$Node", "live", "I", false)
  | 11 => ("IntervalTree$Node", "maxHigh", "I", false)
  | 12 => ("IntervalTree$Node", "maxWeight", "I", false)
  | 13 => ("IntervalTree$Node", "leastLow", "I", false)
  | _ => ("IntervalTree$Node", "mostLow", "I", false)
def tyX4 : Nat → FieldType := fun k => match k with
  | 0 => .int
  | 1 => .int
  | 2 => .int
  | 3 => .int
  | 4 => .int
  | 5 => .boolean
  | 6 => .boolean
  | 7 => .object "IntervalTree$Node"
  | 8 => .object "IntervalTree$Node"
  | 9 => .object "IntervalTree$Node"
  | 10 => .int
  | 11 => .int
  | 12 => .int
  | 13 => .int
  | _ => .int
abbrev wsX40 : List Cond := u_ws RX4 TX4 15
set_option maxRecDepth 100000 in
theorem nmX4 : ∀ a, a < 15 → ∀ b, b < 15 → a ≠ b → (TX4 a).2.1 ≠ (TX4 b).2.1 := by decide +kernel
set_option maxRecDepth 100000 in
theorem tyX4_ok : ∀ k, k < 15 → parseFieldDescriptor (TX4 k).2.2.1 = some (tyX4 k) := by decide +kernel
abbrev cX4_overlaps : ByteArray := prog_4_method_4_code
def yX4_overlaps : MethodName := ⟨RX4, "overlaps", "(II)Z"⟩
def dkwX4_overlaps_0 : List UInt8 := [42, 180, 0, 13, 28, 163, 0, 15, 42, 180, 0, 16, 27, 161, 0, 7, 4, 167, 0, 4, 3, 172]
abbrev dktX4_overlaps_0 : List UInt8 := dkwX4_overlaps_0 ++ []
theorem dksX4_overlaps_0 : cX4_overlaps.data.toList.drop 0 = dktX4_overlaps_0 := by decide +kernel
theorem dX4_overlaps_0 : decode cX4_overlaps 0 = .ok (.aload_n 0, 1) := dk_42 (dk_at dksX4_overlaps_0 0 rfl rfl)
theorem dX4_overlaps_1 : decode cX4_overlaps 1 = .ok (.getfield 13, 3) := dk_180 0 13 (dk_at dksX4_overlaps_0 1 rfl rfl)
theorem dX4_overlaps_4 : decode cX4_overlaps 4 = .ok (.iload_n 2, 1) := dk_28 (dk_at dksX4_overlaps_0 4 rfl rfl)
theorem dX4_overlaps_5 : decode cX4_overlaps 5 = .ok (.if_icmp .gt 15, 3) := dk_163 0 15 (dk_at dksX4_overlaps_0 5 rfl rfl)
theorem dX4_overlaps_8 : decode cX4_overlaps 8 = .ok (.aload_n 0, 1) := dk_42 (dk_at dksX4_overlaps_0 8 rfl rfl)
theorem dX4_overlaps_9 : decode cX4_overlaps 9 = .ok (.getfield 16, 3) := dk_180 0 16 (dk_at dksX4_overlaps_0 9 rfl rfl)
theorem dX4_overlaps_12 : decode cX4_overlaps 12 = .ok (.iload_n 1, 1) := dk_27 (dk_at dksX4_overlaps_0 12 rfl rfl)
theorem dX4_overlaps_13 : decode cX4_overlaps 13 = .ok (.if_icmp .lt 7, 3) := dk_161 0 7 (dk_at dksX4_overlaps_0 13 rfl rfl)
theorem dX4_overlaps_16 : decode cX4_overlaps 16 = .ok (.iconst 1, 1) := dk_4 (dk_at dksX4_overlaps_0 16 rfl rfl)
theorem dX4_overlaps_17 : decode cX4_overlaps 17 = .ok (.goto 4, 3) := dk_167 0 4 (dk_at dksX4_overlaps_0 17 rfl rfl)
theorem dX4_overlaps_20 : decode cX4_overlaps 20 = .ok (.iconst 0, 1) := dk_3 (dk_at dksX4_overlaps_0 20 rfl rfl)
theorem dX4_overlaps_21 : decode cX4_overlaps 21 = .ok (.ireturn, 1) := dk_172 (dk_at dksX4_overlaps_0 21 rfl rfl)
abbrev cX4_push : ByteArray := prog_4_method_6_code
def yX4_push : MethodName := ⟨RX4, "push", "()V"⟩
def dkwX4_push_1 : List UInt8 := [198, 0, 14, 42, 180, 0, 40, 42, 180, 0, 29, 182, 0, 36, 42, 3, 181, 0, 29, 177]
abbrev dktX4_push_1 : List UInt8 := dkwX4_push_1 ++ []
def dkwX4_push_0 : List UInt8 := [42, 180, 0, 32, 198, 0, 14, 42, 180, 0, 32, 42, 180, 0, 29, 182, 0, 36, 42, 180, 0, 40]
abbrev dktX4_push_0 : List UInt8 := dkwX4_push_0 ++ dktX4_push_1
theorem dksX4_push_0 : cX4_push.data.toList.drop 0 = dktX4_push_0 := by decide +kernel
theorem dksX4_push_1 : cX4_push.data.toList.drop 22 = dktX4_push_1 := dk_seg dksX4_push_0 22 rfl rfl
theorem dX4_push_0 : decode cX4_push 0 = .ok (.aload_n 0, 1) := dk_42 (dk_at dksX4_push_0 0 rfl rfl)
theorem dX4_push_1 : decode cX4_push 1 = .ok (.getfield 32, 3) := dk_180 0 32 (dk_at dksX4_push_0 1 rfl rfl)
theorem dX4_push_4 : decode cX4_push 4 = .ok (.ifnull 14, 3) := dk_198 0 14 (dk_at dksX4_push_0 4 rfl rfl)
theorem dX4_push_7 : decode cX4_push 7 = .ok (.aload_n 0, 1) := dk_42 (dk_at dksX4_push_0 7 rfl rfl)
theorem dX4_push_8 : decode cX4_push 8 = .ok (.getfield 32, 3) := dk_180 0 32 (dk_at dksX4_push_0 8 rfl rfl)
theorem dX4_push_11 : decode cX4_push 11 = .ok (.aload_n 0, 1) := dk_42 (dk_at dksX4_push_0 11 rfl rfl)
theorem dX4_push_12 : decode cX4_push 12 = .ok (.getfield 29, 3) := dk_180 0 29 (dk_at dksX4_push_0 12 rfl rfl)
theorem dX4_push_15 : decode cX4_push 15 = .ok (.invokevirtual 36, 3) := dk_182 0 36 (dk_at dksX4_push_0 15 rfl rfl)
theorem dX4_push_18 : decode cX4_push 18 = .ok (.aload_n 0, 1) := dk_42 (dk_at dksX4_push_0 18 rfl rfl)
theorem dX4_push_19 : decode cX4_push 19 = .ok (.getfield 40, 3) := dk_180 0 40 (dk_at dksX4_push_0 19 rfl rfl)
theorem dX4_push_22 : decode cX4_push 22 = .ok (.ifnull 14, 3) := dk_198 0 14 (dk_at dksX4_push_1 0 rfl rfl)
theorem dX4_push_25 : decode cX4_push 25 = .ok (.aload_n 0, 1) := dk_42 (dk_at dksX4_push_1 3 rfl rfl)
theorem dX4_push_26 : decode cX4_push 26 = .ok (.getfield 40, 3) := dk_180 0 40 (dk_at dksX4_push_1 4 rfl rfl)
theorem dX4_push_29 : decode cX4_push 29 = .ok (.aload_n 0, 1) := dk_42 (dk_at dksX4_push_1 7 rfl rfl)
theorem dX4_push_30 : decode cX4_push 30 = .ok (.getfield 29, 3) := dk_180 0 29 (dk_at dksX4_push_1 8 rfl rfl)
theorem dX4_push_33 : decode cX4_push 33 = .ok (.invokevirtual 36, 3) := dk_182 0 36 (dk_at dksX4_push_1 11 rfl rfl)
theorem dX4_push_36 : decode cX4_push 36 = .ok (.aload_n 0, 1) := dk_42 (dk_at dksX4_push_1 14 rfl rfl)
theorem dX4_push_37 : decode cX4_push 37 = .ok (.iconst 0, 1) := dk_3 (dk_at dksX4_push_1 15 rfl rfl)
theorem dX4_push_38 : decode cX4_push 38 = .ok (.putfield 29, 3) := dk_181 0 29 (dk_at dksX4_push_1 16 rfl rfl)
theorem dX4_push_41 : decode cX4_push 41 = .ok (.return_, 1) := dk_177 (dk_at dksX4_push_1 19 rfl rfl)
abbrev cX4_add : ByteArray := prog_4_method_5_code
def yX4_add : MethodName := ⟨RX4, "add", "(I)V"⟩
def dkwX4_add_1 : List UInt8 := [180, 0, 29, 27, 96, 181, 0, 29, 177]
abbrev dktX4_add_1 : List UInt8 := dkwX4_add_1 ++ []
def dkwX4_add_0 : List UInt8 := [42, 89, 180, 0, 19, 27, 96, 181, 0, 19, 42, 89, 180, 0, 26, 27, 96, 181, 0, 26, 42, 89]
abbrev dktX4_add_0 : List UInt8 := dkwX4_add_0 ++ dktX4_add_1
theorem dksX4_add_0 : cX4_add.data.toList.drop 0 = dktX4_add_0 := by decide +kernel
theorem dksX4_add_1 : cX4_add.data.toList.drop 22 = dktX4_add_1 := dk_seg dksX4_add_0 22 rfl rfl
theorem dX4_add_0 : decode cX4_add 0 = .ok (.aload_n 0, 1) := dk_42 (dk_at dksX4_add_0 0 rfl rfl)
theorem dX4_add_1 : decode cX4_add 1 = .ok (.dup, 1) := dk_89 (dk_at dksX4_add_0 1 rfl rfl)
theorem dX4_add_2 : decode cX4_add 2 = .ok (.getfield 19, 3) := dk_180 0 19 (dk_at dksX4_add_0 2 rfl rfl)
theorem dX4_add_5 : decode cX4_add 5 = .ok (.iload_n 1, 1) := dk_27 (dk_at dksX4_add_0 5 rfl rfl)
theorem dX4_add_6 : decode cX4_add 6 = .ok (.iadd, 1) := dk_96 (dk_at dksX4_add_0 6 rfl rfl)
theorem dX4_add_7 : decode cX4_add 7 = .ok (.putfield 19, 3) := dk_181 0 19 (dk_at dksX4_add_0 7 rfl rfl)
theorem dX4_add_10 : decode cX4_add 10 = .ok (.aload_n 0, 1) := dk_42 (dk_at dksX4_add_0 10 rfl rfl)
theorem dX4_add_11 : decode cX4_add 11 = .ok (.dup, 1) := dk_89 (dk_at dksX4_add_0 11 rfl rfl)
theorem dX4_add_12 : decode cX4_add 12 = .ok (.getfield 26, 3) := dk_180 0 26 (dk_at dksX4_add_0 12 rfl rfl)
theorem dX4_add_15 : decode cX4_add 15 = .ok (.iload_n 1, 1) := dk_27 (dk_at dksX4_add_0 15 rfl rfl)
theorem dX4_add_16 : decode cX4_add 16 = .ok (.iadd, 1) := dk_96 (dk_at dksX4_add_0 16 rfl rfl)
theorem dX4_add_17 : decode cX4_add 17 = .ok (.putfield 26, 3) := dk_181 0 26 (dk_at dksX4_add_0 17 rfl rfl)
theorem dX4_add_20 : decode cX4_add 20 = .ok (.aload_n 0, 1) := dk_42 (dk_at dksX4_add_0 20 rfl rfl)
theorem dX4_add_21 : decode cX4_add 21 = .ok (.dup, 1) := dk_89 (dk_at dksX4_add_0 21 rfl rfl)
theorem dX4_add_22 : decode cX4_add 22 = .ok (.getfield 29, 3) := dk_180 0 29 (dk_at dksX4_add_1 0 rfl rfl)
theorem dX4_add_25 : decode cX4_add 25 = .ok (.iload_n 1, 1) := dk_27 (dk_at dksX4_add_1 3 rfl rfl)
theorem dX4_add_26 : decode cX4_add 26 = .ok (.iadd, 1) := dk_96 (dk_at dksX4_add_1 4 rfl rfl)
theorem dX4_add_27 : decode cX4_add 27 = .ok (.putfield 29, 3) := dk_181 0 29 (dk_at dksX4_add_1 5 rfl rfl)
theorem dX4_add_30 : decode cX4_add 30 = .ok (.return_, 1) := dk_177 (dk_at dksX4_add_1 8 rfl rfl)
abbrev cX4_pull : ByteArray := prog_4_method_7_code
def yX4_pull : MethodName := ⟨RX4, "pull", "()V"⟩
def dkwX4_pull_4 : List UInt8 := [182, 0, 59, 177]
abbrev dktX4_pull_4 : List UInt8 := dkwX4_pull_4 ++ []
def dkwX4_pull_3 : List UInt8 := [42, 180, 0, 40, 180, 0, 56, 181, 0, 56, 42, 42, 180, 0, 32, 182, 0, 59, 42, 42, 180, 0, 40]
abbrev dktX4_pull_3 : List UInt8 := dkwX4_pull_3 ++ dktX4_pull_4
def dkwX4_pull_2 : List UInt8 := [180, 0, 32, 180, 0, 53, 181, 0, 53, 42, 42, 180, 0, 40, 199, 0, 10, 42, 180, 0, 13, 167, 0, 10]
abbrev dktX4_pull_2 : List UInt8 := dkwX4_pull_2 ++ dktX4_pull_3
def dkwX4_pull_1 : List UInt8 := [42, 42, 180, 0, 19, 181, 0, 26, 42, 42, 180, 0, 32, 199, 0, 10, 42, 180, 0, 13, 167, 0, 10, 42]
abbrev dktX4_pull_1 : List UInt8 := dkwX4_pull_1 ++ dktX4_pull_2
def dkwX4_pull_0 : List UInt8 := [42, 42, 180, 0, 43, 153, 0, 7, 3, 167, 0, 4, 4, 181, 0, 47, 42, 42, 180, 0, 16, 181, 0, 50]
abbrev dktX4_pull_0 : List UInt8 := dkwX4_pull_0 ++ dktX4_pull_1
theorem dksX4_pull_0 : cX4_pull.data.toList.drop 0 = dktX4_pull_0 := by decide +kernel
theorem dksX4_pull_1 : cX4_pull.data.toList.drop 24 = dktX4_pull_1 := dk_seg dksX4_pull_0 24 rfl rfl
theorem dksX4_pull_2 : cX4_pull.data.toList.drop 48 = dktX4_pull_2 := dk_seg dksX4_pull_1 24 rfl rfl
theorem dksX4_pull_3 : cX4_pull.data.toList.drop 72 = dktX4_pull_3 := dk_seg dksX4_pull_2 24 rfl rfl
theorem dksX4_pull_4 : cX4_pull.data.toList.drop 95 = dktX4_pull_4 := dk_seg dksX4_pull_3 23 rfl rfl
theorem dX4_pull_0 : decode cX4_pull 0 = .ok (.aload_n 0, 1) := dk_42 (dk_at dksX4_pull_0 0 rfl rfl)
theorem dX4_pull_1 : decode cX4_pull 1 = .ok (.aload_n 0, 1) := dk_42 (dk_at dksX4_pull_0 1 rfl rfl)
theorem dX4_pull_2 : decode cX4_pull 2 = .ok (.getfield 43, 3) := dk_180 0 43 (dk_at dksX4_pull_0 2 rfl rfl)
theorem dX4_pull_5 : decode cX4_pull 5 = .ok (.ifCond .eq 7, 3) := dk_153 0 7 (dk_at dksX4_pull_0 5 rfl rfl)
theorem dX4_pull_8 : decode cX4_pull 8 = .ok (.iconst 0, 1) := dk_3 (dk_at dksX4_pull_0 8 rfl rfl)
theorem dX4_pull_9 : decode cX4_pull 9 = .ok (.goto 4, 3) := dk_167 0 4 (dk_at dksX4_pull_0 9 rfl rfl)
theorem dX4_pull_12 : decode cX4_pull 12 = .ok (.iconst 1, 1) := dk_4 (dk_at dksX4_pull_0 12 rfl rfl)
theorem dX4_pull_13 : decode cX4_pull 13 = .ok (.putfield 47, 3) := dk_181 0 47 (dk_at dksX4_pull_0 13 rfl rfl)
theorem dX4_pull_16 : decode cX4_pull 16 = .ok (.aload_n 0, 1) := dk_42 (dk_at dksX4_pull_0 16 rfl rfl)
theorem dX4_pull_17 : decode cX4_pull 17 = .ok (.aload_n 0, 1) := dk_42 (dk_at dksX4_pull_0 17 rfl rfl)
theorem dX4_pull_18 : decode cX4_pull 18 = .ok (.getfield 16, 3) := dk_180 0 16 (dk_at dksX4_pull_0 18 rfl rfl)
theorem dX4_pull_21 : decode cX4_pull 21 = .ok (.putfield 50, 3) := dk_181 0 50 (dk_at dksX4_pull_0 21 rfl rfl)
theorem dX4_pull_24 : decode cX4_pull 24 = .ok (.aload_n 0, 1) := dk_42 (dk_at dksX4_pull_1 0 rfl rfl)
theorem dX4_pull_25 : decode cX4_pull 25 = .ok (.aload_n 0, 1) := dk_42 (dk_at dksX4_pull_1 1 rfl rfl)
theorem dX4_pull_26 : decode cX4_pull 26 = .ok (.getfield 19, 3) := dk_180 0 19 (dk_at dksX4_pull_1 2 rfl rfl)
theorem dX4_pull_29 : decode cX4_pull 29 = .ok (.putfield 26, 3) := dk_181 0 26 (dk_at dksX4_pull_1 5 rfl rfl)
theorem dX4_pull_32 : decode cX4_pull 32 = .ok (.aload_n 0, 1) := dk_42 (dk_at dksX4_pull_1 8 rfl rfl)
theorem dX4_pull_33 : decode cX4_pull 33 = .ok (.aload_n 0, 1) := dk_42 (dk_at dksX4_pull_1 9 rfl rfl)
theorem dX4_pull_34 : decode cX4_pull 34 = .ok (.getfield 32, 3) := dk_180 0 32 (dk_at dksX4_pull_1 10 rfl rfl)
theorem dX4_pull_37 : decode cX4_pull 37 = .ok (.ifnonnull 10, 3) := dk_199 0 10 (dk_at dksX4_pull_1 13 rfl rfl)
theorem dX4_pull_40 : decode cX4_pull 40 = .ok (.aload_n 0, 1) := dk_42 (dk_at dksX4_pull_1 16 rfl rfl)
theorem dX4_pull_41 : decode cX4_pull 41 = .ok (.getfield 13, 3) := dk_180 0 13 (dk_at dksX4_pull_1 17 rfl rfl)
theorem dX4_pull_44 : decode cX4_pull 44 = .ok (.goto 10, 3) := dk_167 0 10 (dk_at dksX4_pull_1 20 rfl rfl)
theorem dX4_pull_47 : decode cX4_pull 47 = .ok (.aload_n 0, 1) := dk_42 (dk_at dksX4_pull_1 23 rfl rfl)
theorem dX4_pull_48 : decode cX4_pull 48 = .ok (.getfield 32, 3) := dk_180 0 32 (dk_at dksX4_pull_2 0 rfl rfl)
theorem dX4_pull_51 : decode cX4_pull 51 = .ok (.getfield 53, 3) := dk_180 0 53 (dk_at dksX4_pull_2 3 rfl rfl)
theorem dX4_pull_54 : decode cX4_pull 54 = .ok (.putfield 53, 3) := dk_181 0 53 (dk_at dksX4_pull_2 6 rfl rfl)
theorem dX4_pull_57 : decode cX4_pull 57 = .ok (.aload_n 0, 1) := dk_42 (dk_at dksX4_pull_2 9 rfl rfl)
theorem dX4_pull_58 : decode cX4_pull 58 = .ok (.aload_n 0, 1) := dk_42 (dk_at dksX4_pull_2 10 rfl rfl)
theorem dX4_pull_59 : decode cX4_pull 59 = .ok (.getfield 40, 3) := dk_180 0 40 (dk_at dksX4_pull_2 11 rfl rfl)
theorem dX4_pull_62 : decode cX4_pull 62 = .ok (.ifnonnull 10, 3) := dk_199 0 10 (dk_at dksX4_pull_2 14 rfl rfl)
theorem dX4_pull_65 : decode cX4_pull 65 = .ok (.aload_n 0, 1) := dk_42 (dk_at dksX4_pull_2 17 rfl rfl)
theorem dX4_pull_66 : decode cX4_pull 66 = .ok (.getfield 13, 3) := dk_180 0 13 (dk_at dksX4_pull_2 18 rfl rfl)
theorem dX4_pull_69 : decode cX4_pull 69 = .ok (.goto 10, 3) := dk_167 0 10 (dk_at dksX4_pull_2 21 rfl rfl)
theorem dX4_pull_72 : decode cX4_pull 72 = .ok (.aload_n 0, 1) := dk_42 (dk_at dksX4_pull_3 0 rfl rfl)
theorem dX4_pull_73 : decode cX4_pull 73 = .ok (.getfield 40, 3) := dk_180 0 40 (dk_at dksX4_pull_3 1 rfl rfl)
theorem dX4_pull_76 : decode cX4_pull 76 = .ok (.getfield 56, 3) := dk_180 0 56 (dk_at dksX4_pull_3 4 rfl rfl)
theorem dX4_pull_79 : decode cX4_pull 79 = .ok (.putfield 56, 3) := dk_181 0 56 (dk_at dksX4_pull_3 7 rfl rfl)
theorem dX4_pull_82 : decode cX4_pull 82 = .ok (.aload_n 0, 1) := dk_42 (dk_at dksX4_pull_3 10 rfl rfl)
theorem dX4_pull_83 : decode cX4_pull 83 = .ok (.aload_n 0, 1) := dk_42 (dk_at dksX4_pull_3 11 rfl rfl)
theorem dX4_pull_84 : decode cX4_pull 84 = .ok (.getfield 32, 3) := dk_180 0 32 (dk_at dksX4_pull_3 12 rfl rfl)
theorem dX4_pull_87 : decode cX4_pull 87 = .ok (.invokevirtual 59, 3) := dk_182 0 59 (dk_at dksX4_pull_3 15 rfl rfl)
theorem dX4_pull_90 : decode cX4_pull 90 = .ok (.aload_n 0, 1) := dk_42 (dk_at dksX4_pull_3 18 rfl rfl)
theorem dX4_pull_91 : decode cX4_pull 91 = .ok (.aload_n 0, 1) := dk_42 (dk_at dksX4_pull_3 19 rfl rfl)
theorem dX4_pull_92 : decode cX4_pull 92 = .ok (.getfield 40, 3) := dk_180 0 40 (dk_at dksX4_pull_3 20 rfl rfl)
theorem dX4_pull_95 : decode cX4_pull 95 = .ok (.invokevirtual 59, 3) := dk_182 0 59 (dk_at dksX4_pull_4 0 rfl rfl)
theorem dX4_pull_98 : decode cX4_pull 98 = .ok (.return_, 1) := dk_177 (dk_at dksX4_pull_4 3 rfl rfl)
abbrev cX4_include : ByteArray := prog_4_method_8_code
def yX4_include : MethodName := ⟨RX4, "include", "(LIntervalTree$Node;)V"⟩
def dkwX4_include_3 : List UInt8 := [42, 89, 180, 0, 47, 43, 180, 0, 47, 96, 181, 0, 47, 177]
abbrev dktX4_include_3 : List UInt8 := dkwX4_include_3 ++ []
def dkwX4_include_2 : List UInt8 := [154, 0, 10, 43, 180, 0, 26, 167, 0, 14, 42, 180, 0, 26, 43, 180, 0, 26, 184, 0, 63, 181, 0, 26]
abbrev dktX4_include_2 : List UInt8 := dkwX4_include_2 ++ dktX4_include_3
def dkwX4_include_1 : List UInt8 := [167, 0, 14, 42, 180, 0, 50, 43, 180, 0, 50, 184, 0, 63, 181, 0, 50, 42, 42, 180, 0, 47]
abbrev dktX4_include_1 : List UInt8 := dkwX4_include_1 ++ dktX4_include_2
def dkwX4_include_0 : List UInt8 := [43, 198, 0, 10, 43, 180, 0, 47, 154, 0, 4, 177, 42, 42, 180, 0, 47, 154, 0, 10, 43, 180, 0, 50]
abbrev dktX4_include_0 : List UInt8 := dkwX4_include_0 ++ dktX4_include_1
theorem dksX4_include_0 : cX4_include.data.toList.drop 0 = dktX4_include_0 := by decide +kernel
theorem dksX4_include_1 : cX4_include.data.toList.drop 24 = dktX4_include_1 := dk_seg dksX4_include_0 24 rfl rfl
theorem dksX4_include_2 : cX4_include.data.toList.drop 46 = dktX4_include_2 := dk_seg dksX4_include_1 22 rfl rfl
theorem dksX4_include_3 : cX4_include.data.toList.drop 70 = dktX4_include_3 := dk_seg dksX4_include_2 24 rfl rfl
theorem dX4_include_0 : decode cX4_include 0 = .ok (.aload_n 1, 1) := dk_43 (dk_at dksX4_include_0 0 rfl rfl)
theorem dX4_include_1 : decode cX4_include 1 = .ok (.ifnull 10, 3) := dk_198 0 10 (dk_at dksX4_include_0 1 rfl rfl)
theorem dX4_include_4 : decode cX4_include 4 = .ok (.aload_n 1, 1) := dk_43 (dk_at dksX4_include_0 4 rfl rfl)
theorem dX4_include_5 : decode cX4_include 5 = .ok (.getfield 47, 3) := dk_180 0 47 (dk_at dksX4_include_0 5 rfl rfl)
theorem dX4_include_8 : decode cX4_include 8 = .ok (.ifCond .ne 4, 3) := dk_154 0 4 (dk_at dksX4_include_0 8 rfl rfl)
theorem dX4_include_11 : decode cX4_include 11 = .ok (.return_, 1) := dk_177 (dk_at dksX4_include_0 11 rfl rfl)
theorem dX4_include_12 : decode cX4_include 12 = .ok (.aload_n 0, 1) := dk_42 (dk_at dksX4_include_0 12 rfl rfl)
theorem dX4_include_13 : decode cX4_include 13 = .ok (.aload_n 0, 1) := dk_42 (dk_at dksX4_include_0 13 rfl rfl)
theorem dX4_include_14 : decode cX4_include 14 = .ok (.getfield 47, 3) := dk_180 0 47 (dk_at dksX4_include_0 14 rfl rfl)
theorem dX4_include_17 : decode cX4_include 17 = .ok (.ifCond .ne 10, 3) := dk_154 0 10 (dk_at dksX4_include_0 17 rfl rfl)
theorem dX4_include_20 : decode cX4_include 20 = .ok (.aload_n 1, 1) := dk_43 (dk_at dksX4_include_0 20 rfl rfl)
theorem dX4_include_21 : decode cX4_include 21 = .ok (.getfield 50, 3) := dk_180 0 50 (dk_at dksX4_include_0 21 rfl rfl)
theorem dX4_include_24 : decode cX4_include 24 = .ok (.goto 14, 3) := dk_167 0 14 (dk_at dksX4_include_1 0 rfl rfl)
theorem dX4_include_27 : decode cX4_include 27 = .ok (.aload_n 0, 1) := dk_42 (dk_at dksX4_include_1 3 rfl rfl)
theorem dX4_include_28 : decode cX4_include 28 = .ok (.getfield 50, 3) := dk_180 0 50 (dk_at dksX4_include_1 4 rfl rfl)
theorem dX4_include_31 : decode cX4_include 31 = .ok (.aload_n 1, 1) := dk_43 (dk_at dksX4_include_1 7 rfl rfl)
theorem dX4_include_32 : decode cX4_include 32 = .ok (.getfield 50, 3) := dk_180 0 50 (dk_at dksX4_include_1 8 rfl rfl)
theorem dX4_include_35 : decode cX4_include 35 = .ok (.invokestatic 63, 3) := dk_184 0 63 (dk_at dksX4_include_1 11 rfl rfl)
theorem dX4_include_38 : decode cX4_include 38 = .ok (.putfield 50, 3) := dk_181 0 50 (dk_at dksX4_include_1 14 rfl rfl)
theorem dX4_include_41 : decode cX4_include 41 = .ok (.aload_n 0, 1) := dk_42 (dk_at dksX4_include_1 17 rfl rfl)
theorem dX4_include_42 : decode cX4_include 42 = .ok (.aload_n 0, 1) := dk_42 (dk_at dksX4_include_1 18 rfl rfl)
theorem dX4_include_43 : decode cX4_include 43 = .ok (.getfield 47, 3) := dk_180 0 47 (dk_at dksX4_include_1 19 rfl rfl)
theorem dX4_include_46 : decode cX4_include 46 = .ok (.ifCond .ne 10, 3) := dk_154 0 10 (dk_at dksX4_include_2 0 rfl rfl)
theorem dX4_include_49 : decode cX4_include 49 = .ok (.aload_n 1, 1) := dk_43 (dk_at dksX4_include_2 3 rfl rfl)
theorem dX4_include_50 : decode cX4_include 50 = .ok (.getfield 26, 3) := dk_180 0 26 (dk_at dksX4_include_2 4 rfl rfl)
theorem dX4_include_53 : decode cX4_include 53 = .ok (.goto 14, 3) := dk_167 0 14 (dk_at dksX4_include_2 7 rfl rfl)
theorem dX4_include_56 : decode cX4_include 56 = .ok (.aload_n 0, 1) := dk_42 (dk_at dksX4_include_2 10 rfl rfl)
theorem dX4_include_57 : decode cX4_include 57 = .ok (.getfield 26, 3) := dk_180 0 26 (dk_at dksX4_include_2 11 rfl rfl)
theorem dX4_include_60 : decode cX4_include 60 = .ok (.aload_n 1, 1) := dk_43 (dk_at dksX4_include_2 14 rfl rfl)
theorem dX4_include_61 : decode cX4_include 61 = .ok (.getfield 26, 3) := dk_180 0 26 (dk_at dksX4_include_2 15 rfl rfl)
theorem dX4_include_64 : decode cX4_include 64 = .ok (.invokestatic 63, 3) := dk_184 0 63 (dk_at dksX4_include_2 18 rfl rfl)
theorem dX4_include_67 : decode cX4_include 67 = .ok (.putfield 26, 3) := dk_181 0 26 (dk_at dksX4_include_2 21 rfl rfl)
theorem dX4_include_70 : decode cX4_include 70 = .ok (.aload_n 0, 1) := dk_42 (dk_at dksX4_include_3 0 rfl rfl)
theorem dX4_include_71 : decode cX4_include 71 = .ok (.dup, 1) := dk_89 (dk_at dksX4_include_3 1 rfl rfl)
theorem dX4_include_72 : decode cX4_include 72 = .ok (.getfield 47, 3) := dk_180 0 47 (dk_at dksX4_include_3 2 rfl rfl)
theorem dX4_include_75 : decode cX4_include 75 = .ok (.aload_n 1, 1) := dk_43 (dk_at dksX4_include_3 5 rfl rfl)
theorem dX4_include_76 : decode cX4_include 76 = .ok (.getfield 47, 3) := dk_180 0 47 (dk_at dksX4_include_3 6 rfl rfl)
theorem dX4_include_79 : decode cX4_include 79 = .ok (.iadd, 1) := dk_96 (dk_at dksX4_include_3 9 rfl rfl)
theorem dX4_include_80 : decode cX4_include 80 = .ok (.putfield 47, 3) := dk_181 0 47 (dk_at dksX4_include_3 10 rfl rfl)
theorem dX4_include_83 : decode cX4_include 83 = .ok (.return_, 1) := dk_177 (dk_at dksX4_include_3 13 rfl rfl)
abbrev cX4_isBeforeKey : ByteArray := prog_4_method_2_code
def yX4_isBeforeKey : MethodName := ⟨RX4, "isBeforeKey", "(III)Z"⟩
def dkwX4_isBeforeKey_2 : List UInt8 := [180, 0, 7, 29, 162, 0, 7, 4, 167, 0, 4, 3, 172]
abbrev dktX4_isBeforeKey_2 : List UInt8 := dkwX4_isBeforeKey_2 ++ []
def dkwX4_isBeforeKey_1 : List UInt8 := [180, 0, 16, 28, 159, 0, 19, 42, 180, 0, 16, 28, 162, 0, 7, 4, 167, 0, 20, 3, 167, 0, 16, 42]
abbrev dktX4_isBeforeKey_1 : List UInt8 := dkwX4_isBeforeKey_1 ++ dktX4_isBeforeKey_2
def dkwX4_isBeforeKey_0 : List UInt8 := [42, 180, 0, 13, 27, 159, 0, 17, 42, 180, 0, 13, 27, 162, 0, 7, 4, 167, 0, 4, 3, 172, 42]
abbrev dktX4_isBeforeKey_0 : List UInt8 := dkwX4_isBeforeKey_0 ++ dktX4_isBeforeKey_1
theorem dksX4_isBeforeKey_0 : cX4_isBeforeKey.data.toList.drop 0 = dktX4_isBeforeKey_0 := by decide +kernel
theorem dksX4_isBeforeKey_1 : cX4_isBeforeKey.data.toList.drop 23 = dktX4_isBeforeKey_1 := dk_seg dksX4_isBeforeKey_0 23 rfl rfl
theorem dksX4_isBeforeKey_2 : cX4_isBeforeKey.data.toList.drop 47 = dktX4_isBeforeKey_2 := dk_seg dksX4_isBeforeKey_1 24 rfl rfl
theorem dX4_isBeforeKey_0 : decode cX4_isBeforeKey 0 = .ok (.aload_n 0, 1) := dk_42 (dk_at dksX4_isBeforeKey_0 0 rfl rfl)
theorem dX4_isBeforeKey_1 : decode cX4_isBeforeKey 1 = .ok (.getfield 13, 3) := dk_180 0 13 (dk_at dksX4_isBeforeKey_0 1 rfl rfl)
theorem dX4_isBeforeKey_4 : decode cX4_isBeforeKey 4 = .ok (.iload_n 1, 1) := dk_27 (dk_at dksX4_isBeforeKey_0 4 rfl rfl)
theorem dX4_isBeforeKey_5 : decode cX4_isBeforeKey 5 = .ok (.if_icmp .eq 17, 3) := dk_159 0 17 (dk_at dksX4_isBeforeKey_0 5 rfl rfl)
theorem dX4_isBeforeKey_8 : decode cX4_isBeforeKey 8 = .ok (.aload_n 0, 1) := dk_42 (dk_at dksX4_isBeforeKey_0 8 rfl rfl)
theorem dX4_isBeforeKey_9 : decode cX4_isBeforeKey 9 = .ok (.getfield 13, 3) := dk_180 0 13 (dk_at dksX4_isBeforeKey_0 9 rfl rfl)
theorem dX4_isBeforeKey_12 : decode cX4_isBeforeKey 12 = .ok (.iload_n 1, 1) := dk_27 (dk_at dksX4_isBeforeKey_0 12 rfl rfl)
theorem dX4_isBeforeKey_13 : decode cX4_isBeforeKey 13 = .ok (.if_icmp .ge 7, 3) := dk_162 0 7 (dk_at dksX4_isBeforeKey_0 13 rfl rfl)
theorem dX4_isBeforeKey_16 : decode cX4_isBeforeKey 16 = .ok (.iconst 1, 1) := dk_4 (dk_at dksX4_isBeforeKey_0 16 rfl rfl)
theorem dX4_isBeforeKey_17 : decode cX4_isBeforeKey 17 = .ok (.goto 4, 3) := dk_167 0 4 (dk_at dksX4_isBeforeKey_0 17 rfl rfl)
theorem dX4_isBeforeKey_20 : decode cX4_isBeforeKey 20 = .ok (.iconst 0, 1) := dk_3 (dk_at dksX4_isBeforeKey_0 20 rfl rfl)
theorem dX4_isBeforeKey_21 : decode cX4_isBeforeKey 21 = .ok (.ireturn, 1) := dk_172 (dk_at dksX4_isBeforeKey_0 21 rfl rfl)
theorem dX4_isBeforeKey_22 : decode cX4_isBeforeKey 22 = .ok (.aload_n 0, 1) := dk_42 (dk_at dksX4_isBeforeKey_0 22 rfl rfl)
theorem dX4_isBeforeKey_23 : decode cX4_isBeforeKey 23 = .ok (.getfield 16, 3) := dk_180 0 16 (dk_at dksX4_isBeforeKey_1 0 rfl rfl)
theorem dX4_isBeforeKey_26 : decode cX4_isBeforeKey 26 = .ok (.iload_n 2, 1) := dk_28 (dk_at dksX4_isBeforeKey_1 3 rfl rfl)
theorem dX4_isBeforeKey_27 : decode cX4_isBeforeKey 27 = .ok (.if_icmp .eq 19, 3) := dk_159 0 19 (dk_at dksX4_isBeforeKey_1 4 rfl rfl)
theorem dX4_isBeforeKey_30 : decode cX4_isBeforeKey 30 = .ok (.aload_n 0, 1) := dk_42 (dk_at dksX4_isBeforeKey_1 7 rfl rfl)
theorem dX4_isBeforeKey_31 : decode cX4_isBeforeKey 31 = .ok (.getfield 16, 3) := dk_180 0 16 (dk_at dksX4_isBeforeKey_1 8 rfl rfl)
theorem dX4_isBeforeKey_34 : decode cX4_isBeforeKey 34 = .ok (.iload_n 2, 1) := dk_28 (dk_at dksX4_isBeforeKey_1 11 rfl rfl)
theorem dX4_isBeforeKey_35 : decode cX4_isBeforeKey 35 = .ok (.if_icmp .ge 7, 3) := dk_162 0 7 (dk_at dksX4_isBeforeKey_1 12 rfl rfl)
theorem dX4_isBeforeKey_38 : decode cX4_isBeforeKey 38 = .ok (.iconst 1, 1) := dk_4 (dk_at dksX4_isBeforeKey_1 15 rfl rfl)
theorem dX4_isBeforeKey_39 : decode cX4_isBeforeKey 39 = .ok (.goto 20, 3) := dk_167 0 20 (dk_at dksX4_isBeforeKey_1 16 rfl rfl)
theorem dX4_isBeforeKey_42 : decode cX4_isBeforeKey 42 = .ok (.iconst 0, 1) := dk_3 (dk_at dksX4_isBeforeKey_1 19 rfl rfl)
theorem dX4_isBeforeKey_43 : decode cX4_isBeforeKey 43 = .ok (.goto 16, 3) := dk_167 0 16 (dk_at dksX4_isBeforeKey_1 20 rfl rfl)
theorem dX4_isBeforeKey_46 : decode cX4_isBeforeKey 46 = .ok (.aload_n 0, 1) := dk_42 (dk_at dksX4_isBeforeKey_1 23 rfl rfl)
theorem dX4_isBeforeKey_47 : decode cX4_isBeforeKey 47 = .ok (.getfield 7, 3) := dk_180 0 7 (dk_at dksX4_isBeforeKey_2 0 rfl rfl)
theorem dX4_isBeforeKey_50 : decode cX4_isBeforeKey 50 = .ok (.iload_n 3, 1) := dk_29 (dk_at dksX4_isBeforeKey_2 3 rfl rfl)
theorem dX4_isBeforeKey_51 : decode cX4_isBeforeKey 51 = .ok (.if_icmp .ge 7, 3) := dk_162 0 7 (dk_at dksX4_isBeforeKey_2 4 rfl rfl)
theorem dX4_isBeforeKey_54 : decode cX4_isBeforeKey 54 = .ok (.iconst 1, 1) := dk_4 (dk_at dksX4_isBeforeKey_2 7 rfl rfl)
theorem dX4_isBeforeKey_55 : decode cX4_isBeforeKey 55 = .ok (.goto 4, 3) := dk_167 0 4 (dk_at dksX4_isBeforeKey_2 8 rfl rfl)
theorem dX4_isBeforeKey_58 : decode cX4_isBeforeKey 58 = .ok (.iconst 0, 1) := dk_3 (dk_at dksX4_isBeforeKey_2 11 rfl rfl)
theorem dX4_isBeforeKey_59 : decode cX4_isBeforeKey 59 = .ok (.ireturn, 1) := dk_172 (dk_at dksX4_isBeforeKey_2 12 rfl rfl)
abbrev cX4_init : ByteArray := prog_4_method_1_code
def yX4_init : MethodName := ⟨RX4, "<init>", "(IIII)V"⟩
def dkwX4_init_1 : List UInt8 := [181, 0, 19, 177]
abbrev dktX4_init_1 : List UInt8 := dkwX4_init_1 ++ []
def dkwX4_init_0 : List UInt8 := [42, 183, 0, 1, 42, 27, 181, 0, 7, 42, 28, 181, 0, 13, 42, 29, 181, 0, 16, 42, 21, 4]
abbrev dktX4_init_0 : List UInt8 := dkwX4_init_0 ++ dktX4_init_1
theorem dksX4_init_0 : cX4_init.data.toList.drop 0 = dktX4_init_0 := by decide +kernel
theorem dksX4_init_1 : cX4_init.data.toList.drop 22 = dktX4_init_1 := dk_seg dksX4_init_0 22 rfl rfl
theorem dX4_init_0 : decode cX4_init 0 = .ok (.aload_n 0, 1) := dk_42 (dk_at dksX4_init_0 0 rfl rfl)
theorem dX4_init_1 : decode cX4_init 1 = .ok (.invokespecial 1, 3) := dk_183 0 1 (dk_at dksX4_init_0 1 rfl rfl)
theorem dX4_init_4 : decode cX4_init 4 = .ok (.aload_n 0, 1) := dk_42 (dk_at dksX4_init_0 4 rfl rfl)
theorem dX4_init_5 : decode cX4_init 5 = .ok (.iload_n 1, 1) := dk_27 (dk_at dksX4_init_0 5 rfl rfl)
theorem dX4_init_6 : decode cX4_init 6 = .ok (.putfield 7, 3) := dk_181 0 7 (dk_at dksX4_init_0 6 rfl rfl)
theorem dX4_init_9 : decode cX4_init 9 = .ok (.aload_n 0, 1) := dk_42 (dk_at dksX4_init_0 9 rfl rfl)
theorem dX4_init_10 : decode cX4_init 10 = .ok (.iload_n 2, 1) := dk_28 (dk_at dksX4_init_0 10 rfl rfl)
theorem dX4_init_11 : decode cX4_init 11 = .ok (.putfield 13, 3) := dk_181 0 13 (dk_at dksX4_init_0 11 rfl rfl)
theorem dX4_init_14 : decode cX4_init 14 = .ok (.aload_n 0, 1) := dk_42 (dk_at dksX4_init_0 14 rfl rfl)
theorem dX4_init_15 : decode cX4_init 15 = .ok (.iload_n 3, 1) := dk_29 (dk_at dksX4_init_0 15 rfl rfl)
theorem dX4_init_16 : decode cX4_init 16 = .ok (.putfield 16, 3) := dk_181 0 16 (dk_at dksX4_init_0 16 rfl rfl)
theorem dX4_init_19 : decode cX4_init 19 = .ok (.aload_n 0, 1) := dk_42 (dk_at dksX4_init_0 19 rfl rfl)
theorem dX4_init_20 : decode cX4_init 20 = .ok (.iload 4, 2) := dk_21 4 (dk_at dksX4_init_0 20 rfl rfl)
theorem dX4_init_22 : decode cX4_init 22 = .ok (.putfield 19, 3) := dk_181 0 19 (dk_at dksX4_init_1 0 rfl rfl)
theorem dX4_init_25 : decode cX4_init 25 = .ok (.return_, 1) := dk_177 (dk_at dksX4_init_1 3 rfl rfl)
abbrev cX4_isBefore : ByteArray := prog_4_method_3_code
def yX4_isBefore : MethodName := ⟨RX4, "isBefore", "(LIntervalTree$Node;)Z"⟩
def dkwX4_isBefore_0 : List UInt8 := [42, 43, 180, 0, 13, 43, 180, 0, 16, 43, 180, 0, 7, 182, 0, 22, 172]
abbrev dktX4_isBefore_0 : List UInt8 := dkwX4_isBefore_0 ++ []
theorem dksX4_isBefore_0 : cX4_isBefore.data.toList.drop 0 = dktX4_isBefore_0 := by decide +kernel
theorem dX4_isBefore_0 : decode cX4_isBefore 0 = .ok (.aload_n 0, 1) := dk_42 (dk_at dksX4_isBefore_0 0 rfl rfl)
theorem dX4_isBefore_1 : decode cX4_isBefore 1 = .ok (.aload_n 1, 1) := dk_43 (dk_at dksX4_isBefore_0 1 rfl rfl)
theorem dX4_isBefore_2 : decode cX4_isBefore 2 = .ok (.getfield 13, 3) := dk_180 0 13 (dk_at dksX4_isBefore_0 2 rfl rfl)
theorem dX4_isBefore_5 : decode cX4_isBefore 5 = .ok (.aload_n 1, 1) := dk_43 (dk_at dksX4_isBefore_0 5 rfl rfl)
theorem dX4_isBefore_6 : decode cX4_isBefore 6 = .ok (.getfield 16, 3) := dk_180 0 16 (dk_at dksX4_isBefore_0 6 rfl rfl)
theorem dX4_isBefore_9 : decode cX4_isBefore 9 = .ok (.aload_n 1, 1) := dk_43 (dk_at dksX4_isBefore_0 9 rfl rfl)
theorem dX4_isBefore_10 : decode cX4_isBefore 10 = .ok (.getfield 7, 3) := dk_180 0 7 (dk_at dksX4_isBefore_0 10 rfl rfl)
theorem dX4_isBefore_13 : decode cX4_isBefore 13 = .ok (.invokevirtual 22, 3) := dk_182 0 22 (dk_at dksX4_isBefore_0 13 rfl rfl)
theorem dX4_isBefore_16 : decode cX4_isBefore 16 = .ok (.ireturn, 1) := dk_172 (dk_at dksX4_isBefore_0 16 rfl rfl)
theorem q102 : (Jvm.Cond.initialized "IntervalTree$Node") ∈ lw_all := lw_g (lw_at lw_m1 10 rfl) rfl
theorem q152 : (Jvm.Cond.instanceMethod ({ cls := "IntervalTree$Node", name := "overlaps", desc := "(II)Z" } : Jvm.MethodName)) ∈ lw_all := lw_g (lw_at lw_m1 60 rfl) rfl
theorem q153 : (Jvm.Cond.selects "IntervalTree$Node" ({ cls := "IntervalTree$Node", name := "overlaps", desc := "(II)Z" } : Jvm.MethodName) ({ cls := "IntervalTree$Node", name := "overlaps", desc := "(II)Z" } : Jvm.MethodName)) ∈ lw_all := lw_g (lw_at lw_m1 61 rfl) rfl
theorem q154 : (Jvm.Cond.code ({ cls := "IntervalTree$Node", name := "overlaps", desc := "(II)Z" } : Jvm.MethodName) prog_4_method_4_code (3 : Nat) (Option.some Jvm.ClassFile.FieldType.boolean)) ∈ lw_all := lw_g (lw_at lw_m1 62 rfl) rfl
theorem q313 : (Jvm.Cond.instanceMethod ({ cls := "IntervalTree$Node", name := "push", desc := "()V" } : Jvm.MethodName)) ∈ lw_all := lw_g (lw_at lw_m1 221 rfl) rfl
theorem q314 : (Jvm.Cond.selects "IntervalTree$Node" ({ cls := "IntervalTree$Node", name := "push", desc := "()V" } : Jvm.MethodName) ({ cls := "IntervalTree$Node", name := "push", desc := "()V" } : Jvm.MethodName)) ∈ lw_all := lw_g (lw_at lw_m1 222 rfl) rfl
theorem q315 : (Jvm.Cond.code ({ cls := "IntervalTree$Node", name := "push", desc := "()V" } : Jvm.MethodName) prog_4_method_6_code (1 : Nat) (Option.none : Option Jvm.ClassFile.FieldType)) ∈ lw_all := lw_g (lw_at lw_m1 223 rfl) rfl
theorem q316 : (Jvm.Cond.methodLink "IntervalTree$Node" (36 : Nat) ({ cls := "IntervalTree$Node", name := "add", desc := "(I)V" } : Jvm.MethodName)) ∈ lw_all := lw_g (lw_at lw_m1 224 rfl) rfl
theorem q317 : (Jvm.Cond.instanceMethod ({ cls := "IntervalTree$Node", name := "add", desc := "(I)V" } : Jvm.MethodName)) ∈ lw_all := lw_g (lw_at lw_m1 225 rfl) rfl
theorem q318 : (Jvm.Cond.selects "IntervalTree$Node" ({ cls := "IntervalTree$Node", name := "add", desc := "(I)V" } : Jvm.MethodName) ({ cls := "IntervalTree$Node", name := "add", desc := "(I)V" } : Jvm.MethodName)) ∈ lw_all := lw_g (lw_at lw_m1 226 rfl) rfl
theorem q319 : (Jvm.Cond.code ({ cls := "IntervalTree$Node", name := "add", desc := "(I)V" } : Jvm.MethodName) prog_4_method_5_code (2 : Nat) (Option.none : Option Jvm.ClassFile.FieldType)) ∈ lw_all := lw_g (lw_at lw_m1 227 rfl) rfl
theorem q332 : (Jvm.Cond.instanceMethod ({ cls := "IntervalTree$Node", name := "pull", desc := "()V" } : Jvm.MethodName)) ∈ lw_all := lw_g (lw_at lw_m2 0 rfl) rfl
theorem q333 : (Jvm.Cond.selects "IntervalTree$Node" ({ cls := "IntervalTree$Node", name := "pull", desc := "()V" } : Jvm.MethodName) ({ cls := "IntervalTree$Node", name := "pull", desc := "()V" } : Jvm.MethodName)) ∈ lw_all := lw_g (lw_at lw_m2 1 rfl) rfl
theorem q334 : (Jvm.Cond.code ({ cls := "IntervalTree$Node", name := "pull", desc := "()V" } : Jvm.MethodName) prog_4_method_7_code (1 : Nat) (Option.none : Option Jvm.ClassFile.FieldType)) ∈ lw_all := lw_g (lw_at lw_m2 2 rfl) rfl
theorem q335 : (Jvm.Cond.methodLink "IntervalTree$Node" (59 : Nat) ({ cls := "IntervalTree$Node", name := "include", desc := "(LIntervalTree$Node;)V" } : Jvm.MethodName)) ∈ lw_all := lw_g (lw_at lw_m2 3 rfl) rfl
theorem q336 : (Jvm.Cond.privateMethod ({ cls := "IntervalTree$Node", name := "include", desc := "(LIntervalTree$Node;)V" } : Jvm.MethodName)) ∈ lw_tbl := lw_at lw_m2 4 rfl
theorem q337 : (Jvm.Cond.instanceMethod ({ cls := "IntervalTree$Node", name := "include", desc := "(LIntervalTree$Node;)V" } : Jvm.MethodName)) ∈ lw_all := lw_g (lw_at lw_m2 5 rfl) rfl
theorem q338 : (Jvm.Cond.instantiable "IntervalTree$Node" (15 : Nat)) ∈ lw_all := lw_g (lw_at lw_m2 6 rfl) rfl
theorem q339 : (Jvm.Cond.code ({ cls := "IntervalTree$Node", name := "include", desc := "(LIntervalTree$Node;)V" } : Jvm.MethodName) prog_4_method_8_code (2 : Nat) (Option.none : Option Jvm.ClassFile.FieldType)) ∈ lw_all := lw_g (lw_at lw_m2 7 rfl) rfl
theorem q340 : (Jvm.Cond.methodLink "IntervalTree$Node" (63 : Nat) ({ cls := "java/lang/Math", name := "max", desc := "(II)I" } : Jvm.MethodName)) ∈ lw_all := lw_g (lw_at lw_m2 8 rfl) rfl
theorem q410 : (Jvm.Cond.instanceMethod ({ cls := "IntervalTree$Node", name := "isBeforeKey", desc := "(III)Z" } : Jvm.MethodName)) ∈ lw_all := lw_g (lw_at lw_m2 78 rfl) rfl
theorem q411 : (Jvm.Cond.selects "IntervalTree$Node" ({ cls := "IntervalTree$Node", name := "isBeforeKey", desc := "(III)Z" } : Jvm.MethodName) ({ cls := "IntervalTree$Node", name := "isBeforeKey", desc := "(III)Z" } : Jvm.MethodName)) ∈ lw_all := lw_g (lw_at lw_m2 79 rfl) rfl
theorem q412 : (Jvm.Cond.code ({ cls := "IntervalTree$Node", name := "isBeforeKey", desc := "(III)Z" } : Jvm.MethodName) prog_4_method_2_code (4 : Nat) (Option.some Jvm.ClassFile.FieldType.boolean)) ∈ lw_all := lw_g (lw_at lw_m2 80 rfl) rfl
theorem q537 : (Jvm.Cond.instanceMethod ({ cls := "IntervalTree$Node", name := "<init>", desc := "(IIII)V" } : Jvm.MethodName)) ∈ lw_all := lw_g (lw_at lw_m2 205 rfl) rfl
theorem q538 : (Jvm.Cond.code ({ cls := "IntervalTree$Node", name := "<init>", desc := "(IIII)V" } : Jvm.MethodName) prog_4_method_1_code (5 : Nat) (Option.none : Option Jvm.ClassFile.FieldType)) ∈ lw_all := lw_g (lw_at lw_m2 206 rfl) rfl
theorem q539 : (Jvm.Cond.methodLink "IntervalTree$Node" (1 : Nat) ({ cls := "java/lang/Object", name := "<init>", desc := "()V" } : Jvm.MethodName)) ∈ lw_all := lw_g (lw_at lw_m2 207 rfl) rfl
theorem q540 : (Jvm.Cond.fieldLink "IntervalTree$Node" (7 : Nat) "IntervalTree$Node" "id" "I") ∈ lw_all := lw_g (lw_at lw_m2 208 rfl) rfl
theorem q542 : (Jvm.Cond.fieldLink "IntervalTree$Node" (13 : Nat) "IntervalTree$Node" "low" "I") ∈ lw_all := lw_g (lw_at lw_m2 210 rfl) rfl
theorem q544 : (Jvm.Cond.fieldLink "IntervalTree$Node" (16 : Nat) "IntervalTree$Node" "high" "I") ∈ lw_all := lw_g (lw_at lw_m2 212 rfl) rfl
theorem q546 : (Jvm.Cond.fieldLink "IntervalTree$Node" (19 : Nat) "IntervalTree$Node" "weight" "I") ∈ lw_all := lw_g (lw_at lw_m2 214 rfl) rfl
theorem q548 : (Jvm.Cond.fieldLink "IntervalTree$Node" (29 : Nat) "IntervalTree$Node" "pending" "I") ∈ lw_all := lw_g (lw_at lw_m2 216 rfl) rfl
theorem q551 : (Jvm.Cond.fieldLink "IntervalTree$Node" (43 : Nat) "IntervalTree$Node" "removed" "Z") ∈ lw_all := lw_g (lw_at lw_m2 219 rfl) rfl
theorem q554 : (Jvm.Cond.fieldLink "IntervalTree$Node" (32 : Nat) "IntervalTree$Node" "left" "LIntervalTree$Node;") ∈ lw_all := lw_g (lw_at lw_m2 222 rfl) rfl
theorem q556 : (Jvm.Cond.fieldLink "IntervalTree$Node" (40 : Nat) "IntervalTree$Node" "right" "LIntervalTree$Node;") ∈ lw_all := lw_g (lw_at lw_m2 224 rfl) rfl
theorem q558 : (Jvm.Cond.fieldLink "IntervalTree$Node" (47 : Nat) "IntervalTree$Node" "live" "I") ∈ lw_all := lw_g (lw_at lw_m2 226 rfl) rfl
theorem q560 : (Jvm.Cond.fieldLink "IntervalTree$Node" (50 : Nat) "IntervalTree$Node" "maxHigh" "I") ∈ lw_all := lw_g (lw_at lw_m2 228 rfl) rfl
theorem q562 : (Jvm.Cond.fieldLink "IntervalTree$Node" (26 : Nat) "IntervalTree$Node" "maxWeight" "I") ∈ lw_all := lw_g (lw_at lw_m2 230 rfl) rfl
theorem q564 : (Jvm.Cond.fieldLink "IntervalTree$Node" (53 : Nat) "IntervalTree$Node" "leastLow" "I") ∈ lw_all := lw_g (lw_at lw_m2 232 rfl) rfl
theorem q566 : (Jvm.Cond.fieldLink "IntervalTree$Node" (56 : Nat) "IntervalTree$Node" "mostLow" "I") ∈ lw_all := lw_g (lw_at lw_m2 234 rfl) rfl
theorem q568 : (Jvm.Cond.laysFinal "IntervalTree$Node" "IntervalTree$Node" "id" "I") ∈ lw_all := lw_g (lw_at lw_m2 236 rfl) rfl
theorem q569 : (Jvm.Cond.soleField "IntervalTree$Node" "id") ∈ lw_all := lw_g (lw_at lw_m2 237 rfl) rfl
theorem q570 : (Jvm.Cond.laysFinal "IntervalTree$Node" "IntervalTree$Node" "low" "I") ∈ lw_all := lw_g (lw_at lw_m2 238 rfl) rfl
theorem q571 : (Jvm.Cond.soleField "IntervalTree$Node" "low") ∈ lw_all := lw_g (lw_at lw_m2 239 rfl) rfl
theorem q572 : (Jvm.Cond.laysFinal "IntervalTree$Node" "IntervalTree$Node" "high" "I") ∈ lw_all := lw_g (lw_at lw_m3 0 rfl) rfl
theorem q573 : (Jvm.Cond.soleField "IntervalTree$Node" "high") ∈ lw_all := lw_g (lw_at lw_m3 1 rfl) rfl
theorem q574 : (Jvm.Cond.lays "IntervalTree$Node" "IntervalTree$Node" "weight" "I") ∈ lw_all := lw_g (lw_at lw_m3 2 rfl) rfl
theorem q575 : (Jvm.Cond.soleField "IntervalTree$Node" "weight") ∈ lw_all := lw_g (lw_at lw_m3 3 rfl) rfl
theorem q576 : (Jvm.Cond.lays "IntervalTree$Node" "IntervalTree$Node" "pending" "I") ∈ lw_all := lw_g (lw_at lw_m3 4 rfl) rfl
theorem q577 : (Jvm.Cond.soleField "IntervalTree$Node" "pending") ∈ lw_all := lw_g (lw_at lw_m3 5 rfl) rfl
theorem q578 : (Jvm.Cond.lays "IntervalTree$Node" "IntervalTree$Node" "red" "Z") ∈ lw_all := lw_g (lw_at lw_m3 6 rfl) rfl
theorem q579 : (Jvm.Cond.soleField "IntervalTree$Node" "red") ∈ lw_all := lw_g (lw_at lw_m3 7 rfl) rfl
theorem q580 : (Jvm.Cond.lays "IntervalTree$Node" "IntervalTree$Node" "removed" "Z") ∈ lw_all := lw_g (lw_at lw_m3 8 rfl) rfl
theorem q581 : (Jvm.Cond.soleField "IntervalTree$Node" "removed") ∈ lw_all := lw_g (lw_at lw_m3 9 rfl) rfl
theorem q582 : (Jvm.Cond.lays "IntervalTree$Node" "IntervalTree$Node" "parent" "LIntervalTree$Node;") ∈ lw_all := lw_g (lw_at lw_m3 10 rfl) rfl
theorem q583 : (Jvm.Cond.soleField "IntervalTree$Node" "parent") ∈ lw_all := lw_g (lw_at lw_m3 11 rfl) rfl
theorem q584 : (Jvm.Cond.lays "IntervalTree$Node" "IntervalTree$Node" "left" "LIntervalTree$Node;") ∈ lw_all := lw_g (lw_at lw_m3 12 rfl) rfl
theorem q585 : (Jvm.Cond.soleField "IntervalTree$Node" "left") ∈ lw_all := lw_g (lw_at lw_m3 13 rfl) rfl
theorem q586 : (Jvm.Cond.lays "IntervalTree$Node" "IntervalTree$Node" "right" "LIntervalTree$Node;") ∈ lw_all := lw_g (lw_at lw_m3 14 rfl) rfl
theorem q587 : (Jvm.Cond.soleField "IntervalTree$Node" "right") ∈ lw_all := lw_g (lw_at lw_m3 15 rfl) rfl
theorem q588 : (Jvm.Cond.lays "IntervalTree$Node" "IntervalTree$Node" "live" "I") ∈ lw_all := lw_g (lw_at lw_m3 16 rfl) rfl
theorem q589 : (Jvm.Cond.soleField "IntervalTree$Node" "live") ∈ lw_all := lw_g (lw_at lw_m3 17 rfl) rfl
theorem q590 : (Jvm.Cond.lays "IntervalTree$Node" "IntervalTree$Node" "maxHigh" "I") ∈ lw_all := lw_g (lw_at lw_m3 18 rfl) rfl
theorem q591 : (Jvm.Cond.soleField "IntervalTree$Node" "maxHigh") ∈ lw_all := lw_g (lw_at lw_m3 19 rfl) rfl
theorem q592 : (Jvm.Cond.lays "IntervalTree$Node" "IntervalTree$Node" "maxWeight" "I") ∈ lw_all := lw_g (lw_at lw_m3 20 rfl) rfl
theorem q593 : (Jvm.Cond.soleField "IntervalTree$Node" "maxWeight") ∈ lw_all := lw_g (lw_at lw_m3 21 rfl) rfl
theorem q594 : (Jvm.Cond.lays "IntervalTree$Node" "IntervalTree$Node" "leastLow" "I") ∈ lw_all := lw_g (lw_at lw_m3 22 rfl) rfl
theorem q595 : (Jvm.Cond.soleField "IntervalTree$Node" "leastLow") ∈ lw_all := lw_g (lw_at lw_m3 23 rfl) rfl
theorem q596 : (Jvm.Cond.lays "IntervalTree$Node" "IntervalTree$Node" "mostLow" "I") ∈ lw_all := lw_g (lw_at lw_m3 24 rfl) rfl
theorem q597 : (Jvm.Cond.soleField "IntervalTree$Node" "mostLow") ∈ lw_all := lw_g (lw_at lw_m3 25 rfl) rfl
theorem q598 : (Jvm.Cond.superclass "IntervalTree$Node" "java/lang/Object") ∈ lw_all := lw_g (lw_at lw_m3 26 rfl) rfl
theorem q604 : (Jvm.Cond.instanceMethod ({ cls := "IntervalTree$Node", name := "isBefore", desc := "(LIntervalTree$Node;)Z" } : Jvm.MethodName)) ∈ lw_all := lw_g (lw_at lw_m3 32 rfl) rfl
theorem q605 : (Jvm.Cond.selects "IntervalTree$Node" ({ cls := "IntervalTree$Node", name := "isBefore", desc := "(LIntervalTree$Node;)Z" } : Jvm.MethodName) ({ cls := "IntervalTree$Node", name := "isBefore", desc := "(LIntervalTree$Node;)Z" } : Jvm.MethodName)) ∈ lw_all := lw_g (lw_at lw_m3 33 rfl) rfl
theorem q606 : (Jvm.Cond.code ({ cls := "IntervalTree$Node", name := "isBefore", desc := "(LIntervalTree$Node;)Z" } : Jvm.MethodName) prog_4_method_3_code (2 : Nat) (Option.some Jvm.ClassFile.FieldType.boolean)) ∈ lw_all := lw_g (lw_at lw_m3 34 rfl) rfl
theorem q607 : (Jvm.Cond.methodLink "IntervalTree$Node" (22 : Nat) ({ cls := "IntervalTree$Node", name := "isBeforeKey", desc := "(III)Z" } : Jvm.MethodName)) ∈ lw_all := lw_g (lw_at lw_m3 35 rfl) rfl
theorem q1799 : (Jvm.Cond.castable "IntervalTree$Node" "java/lang/Object") ∈ lw_tbl := lw_at lw_m8 27 rfl
theorem in_X4 : ∀ w ∈ wsX40, w ∈ lw_all := lw_in wsX40 [568, 570, 572, 574, 576, 578, 580, 582, 584, 586, 588, 590, 592, 594, 596] (by decide +kernel) (by decide +kernel)

/-! IntervalTree$Cursor -/
set_option maxRecDepth 100000
def RX2 : String := "IntervalTree$Cursor"
def TX2 : u_T := fun k => match k with
  | 0 => ("IntervalTree$Cursor", "isOpen", "Z", false)
  | 1 => ("IntervalTree$Cursor", "hasMoved", "Z", false)
  | 2 => ("IntervalTree$Cursor", "filter", "LIntervalTree$Filter;", false)
  | 3 => ("IntervalTree$Cursor", "low", "I", false)
  | 4 => ("IntervalTree$Cursor", "high", "I", false)
  | _ => ("IntervalTree$Cursor", "id", "I", false)
def tyX2 : Nat → FieldType := fun k => match k with
  | 0 => .boolean
  | 1 => .boolean
  | 2 => .object "IntervalTree$Filter"
  | 3 => .int
  | 4 => .int
  | _ => .int
abbrev wsX20 : List Cond := u_ws RX2 TX2 6
theorem nmX2 : ∀ a, a < 6 → ∀ b, b < 6 → a ≠ b → (TX2 a).2.1 ≠ (TX2 b).2.1 := by decide +kernel
theorem tyX2_ok : ∀ k, k < 6 → parseFieldDescriptor (TX2 k).2.2.1 = some (tyX2 k) := by decide +kernel
abbrev cX2_init : ByteArray := prog_2_method_1_code
def yX2_init : MethodName := ⟨RX2, "<init>", "()V"⟩
theorem dX2_init_0 : decode cX2_init 0 = .ok (.aload_n 0, 1) := by decide +kernel
theorem dX2_init_1 : decode cX2_init 1 = .ok (.invokespecial 1, 3) := by decide +kernel
theorem dX2_init_4 : decode cX2_init 4 = .ok (.return_, 1) := by decide +kernel
theorem q94 : (Jvm.Cond.initialized "IntervalTree$Cursor") ∈ lw_all := lw_g (lw_at lw_m1 2 rfl) rfl
theorem q155 : (Jvm.Cond.instantiable "IntervalTree$Cursor" (6 : Nat)) ∈ lw_all := lw_g (lw_at lw_m1 63 rfl) rfl
theorem q157 : (Jvm.Cond.instanceMethod ({ cls := "IntervalTree$Cursor", name := "<init>", desc := "()V" } : Jvm.MethodName)) ∈ lw_all := lw_g (lw_at lw_m1 65 rfl) rfl
theorem q158 : (Jvm.Cond.code ({ cls := "IntervalTree$Cursor", name := "<init>", desc := "()V" } : Jvm.MethodName) prog_2_method_1_code (1 : Nat) (Option.none : Option Jvm.ClassFile.FieldType)) ∈ lw_all := lw_g (lw_at lw_m1 66 rfl) rfl
theorem q159 : (Jvm.Cond.methodLink "IntervalTree$Cursor" (1 : Nat) ({ cls := "java/lang/Object", name := "<init>", desc := "()V" } : Jvm.MethodName)) ∈ lw_all := lw_g (lw_at lw_m1 67 rfl) rfl
theorem q166 : (Jvm.Cond.lays "IntervalTree$Cursor" "IntervalTree$Cursor" "isOpen" "Z") ∈ lw_all := lw_g (lw_at lw_m1 74 rfl) rfl
theorem q167 : (Jvm.Cond.soleField "IntervalTree$Cursor" "isOpen") ∈ lw_all := lw_g (lw_at lw_m1 75 rfl) rfl
theorem q168 : (Jvm.Cond.lays "IntervalTree$Cursor" "IntervalTree$Cursor" "hasMoved" "Z") ∈ lw_all := lw_g (lw_at lw_m1 76 rfl) rfl
theorem q169 : (Jvm.Cond.soleField "IntervalTree$Cursor" "hasMoved") ∈ lw_all := lw_g (lw_at lw_m1 77 rfl) rfl
theorem q170 : (Jvm.Cond.lays "IntervalTree$Cursor" "IntervalTree$Cursor" "filter" "LIntervalTree$Filter;") ∈ lw_all := lw_g (lw_at lw_m1 78 rfl) rfl
theorem q171 : (Jvm.Cond.soleField "IntervalTree$Cursor" "filter") ∈ lw_all := lw_g (lw_at lw_m1 79 rfl) rfl
theorem q172 : (Jvm.Cond.lays "IntervalTree$Cursor" "IntervalTree$Cursor" "low" "I") ∈ lw_all := lw_g (lw_at lw_m1 80 rfl) rfl
theorem q173 : (Jvm.Cond.soleField "IntervalTree$Cursor" "low") ∈ lw_all := lw_g (lw_at lw_m1 81 rfl) rfl
theorem q174 : (Jvm.Cond.lays "IntervalTree$Cursor" "IntervalTree$Cursor" "high" "I") ∈ lw_all := lw_g (lw_at lw_m1 82 rfl) rfl
theorem q175 : (Jvm.Cond.soleField "IntervalTree$Cursor" "high") ∈ lw_all := lw_g (lw_at lw_m1 83 rfl) rfl
theorem q176 : (Jvm.Cond.lays "IntervalTree$Cursor" "IntervalTree$Cursor" "id" "I") ∈ lw_all := lw_g (lw_at lw_m1 84 rfl) rfl
theorem q177 : (Jvm.Cond.soleField "IntervalTree$Cursor" "id") ∈ lw_all := lw_g (lw_at lw_m1 85 rfl) rfl
theorem q178 : (Jvm.Cond.superclass "IntervalTree$Cursor" "java/lang/Object") ∈ lw_all := lw_g (lw_at lw_m1 86 rfl) rfl
theorem q1795 : (Jvm.Cond.castable "IntervalTree$Cursor" "java/lang/Object") ∈ lw_tbl := lw_at lw_m8 23 rfl
theorem in_X2 : ∀ w ∈ wsX20, w ∈ lw_all := lw_in wsX20 [166, 168, 170, 172, 174, 176] (by decide +kernel) (by decide +kernel)

/-! IntervalTree$SyntaxError -/
set_option maxRecDepth 100000
def RX6 : String := "IntervalTree$SyntaxError"
def TX6 : u_T := fun k => match k with
  | 0 => ("java/lang/Throwable", "cause", "Ljava/lang/Throwable;", false)
  | 1 => ("java/lang/Throwable", "stackTrace", "[Ljava/lang/StackTraceElement;", false)
  | 2 => ("java/lang/Throwable", "suppressedExceptions", "Ljava/util/List;", false)
  | 3 => ("java/lang/Throwable", "detailMessage", "Ljava/lang/String;", false)
  | 4 => ("java/lang/Throwable", "backtrace", "Ljava/lang/Object;", false)
  | 5 => ("java/lang/Throwable", "depth", "I", false)
  | _ => ("IntervalTree$SyntaxError", "position", "I", true)
def tyX6 : Nat → FieldType := fun k => match k with
  | 0 => .object "java/lang/Throwable"
  | 1 => .array (.object "java/lang/StackTraceElement")
  | 2 => .object "java/util/List"
  | 3 => .object "java/lang/String"
  | 4 => .object "java/lang/Object"
  | 5 => .int
  | _ => .int
abbrev wsX60 : List Cond := u_ws RX6 TX6 7
theorem nmX6 : ∀ a, a < 7 → ∀ b, b < 7 → a ≠ b → (TX6 a).2.1 ≠ (TX6 b).2.1 := by decide +kernel
theorem tyX6_ok : ∀ k, k < 7 → parseFieldDescriptor (TX6 k).2.2.1 = some (tyX6 k) := by decide +kernel
abbrev cX6_init : ByteArray := prog_7_method_1_code
def yX6_init : MethodName := ⟨RX6, "<init>", "(I)V"⟩
def dkwX6_init_0 : List UInt8 := [42, 18, 1, 183, 0, 3, 42, 27, 181, 0, 9, 177]
abbrev dktX6_init_0 : List UInt8 := dkwX6_init_0 ++ []
theorem dksX6_init_0 : cX6_init.data.toList.drop 0 = dktX6_init_0 := by decide +kernel
theorem dX6_init_0 : decode cX6_init 0 = .ok (.aload_n 0, 1) := dk_42 (dk_at dksX6_init_0 0 rfl rfl)
theorem dX6_init_1 : decode cX6_init 1 = .ok (.ldc 1, 2) := dk_18 1 (dk_at dksX6_init_0 1 rfl rfl)
theorem dX6_init_3 : decode cX6_init 3 = .ok (.invokespecial 3, 3) := dk_183 0 3 (dk_at dksX6_init_0 3 rfl rfl)
theorem dX6_init_6 : decode cX6_init 6 = .ok (.aload_n 0, 1) := dk_42 (dk_at dksX6_init_0 6 rfl rfl)
theorem dX6_init_7 : decode cX6_init 7 = .ok (.iload_n 1, 1) := dk_27 (dk_at dksX6_init_0 7 rfl rfl)
theorem dX6_init_8 : decode cX6_init 8 = .ok (.putfield 9, 3) := dk_181 0 9 (dk_at dksX6_init_0 8 rfl rfl)
theorem dX6_init_11 : decode cX6_init 11 = .ok (.return_, 1) := dk_177 (dk_at dksX6_init_0 11 rfl rfl)
theorem q108 : (Jvm.Cond.initialized "IntervalTree$SyntaxError") ∈ lw_all := lw_g (lw_at lw_m1 16 rfl) rfl
theorem q483 : (Jvm.Cond.selects "IntervalTree$SyntaxError" ({ cls := "java/lang/Throwable", name := "fillInStackTrace", desc := "()Ljava/lang/Throwable;" } : Jvm.MethodName) ({ cls := "java/lang/Throwable", name := "fillInStackTrace", desc := "()Ljava/lang/Throwable;" } : Jvm.MethodName)) ∈ lw_all := lw_g (lw_at lw_m2 151 rfl) rfl
theorem q1042 : (Jvm.Cond.instantiable "IntervalTree$SyntaxError" (7 : Nat)) ∈ lw_all := lw_g (lw_at lw_m4 230 rfl) rfl
theorem q1043 : (Jvm.Cond.castable "IntervalTree$SyntaxError" "IntervalTree$SyntaxError") ∈ lw_tbl := lw_at lw_m4 231 rfl
theorem q1044 : (Jvm.Cond.selects "IntervalTree$SyntaxError" ({ cls := "java/lang/Throwable", name := "fillInStackTrace", desc := "(I)Ljava/lang/Throwable;" } : Jvm.MethodName) ({ cls := "java/lang/Throwable", name := "fillInStackTrace", desc := "(I)Ljava/lang/Throwable;" } : Jvm.MethodName)) ∈ lw_all := lw_g (lw_at lw_m4 232 rfl) rfl
theorem q1045 : (Jvm.Cond.lays "IntervalTree$SyntaxError" "java/lang/Throwable" "cause" "Ljava/lang/Throwable;") ∈ lw_all := lw_g (lw_at lw_m4 233 rfl) rfl
theorem q1046 : (Jvm.Cond.lays "IntervalTree$SyntaxError" "java/lang/Throwable" "stackTrace" "[Ljava/lang/StackTraceElement;") ∈ lw_all := lw_g (lw_at lw_m4 234 rfl) rfl
theorem q1047 : (Jvm.Cond.lays "IntervalTree$SyntaxError" "java/lang/Throwable" "suppressedExceptions" "Ljava/util/List;") ∈ lw_all := lw_g (lw_at lw_m4 235 rfl) rfl
theorem q1048 : (Jvm.Cond.lays "IntervalTree$SyntaxError" "java/lang/Throwable" "detailMessage" "Ljava/lang/String;") ∈ lw_all := lw_g (lw_at lw_m4 236 rfl) rfl
theorem q1049 : (Jvm.Cond.lays "IntervalTree$SyntaxError" "java/lang/Throwable" "backtrace" "Ljava/lang/Object;") ∈ lw_all := lw_g (lw_at lw_m4 237 rfl) rfl
theorem q1051 : (Jvm.Cond.instanceMethod ({ cls := "IntervalTree$SyntaxError", name := "<init>", desc := "(I)V" } : Jvm.MethodName)) ∈ lw_all := lw_g (lw_at lw_m4 239 rfl) rfl
theorem q1052 : (Jvm.Cond.code ({ cls := "IntervalTree$SyntaxError", name := "<init>", desc := "(I)V" } : Jvm.MethodName) prog_7_method_1_code (2 : Nat) (Option.none : Option Jvm.ClassFile.FieldType)) ∈ lw_all := lw_g (lw_at lw_m5 0 rfl) rfl
theorem q1053 : (Jvm.Cond.stringRef "IntervalTree$SyntaxError" (1 : Nat) "syntax error") ∈ lw_tbl := lw_at lw_m5 1 rfl
theorem q1054 : (Jvm.Cond.methodLink "IntervalTree$SyntaxError" (3 : Nat) ({ cls := "java/lang/Exception", name := "<init>", desc := "(Ljava/lang/String;)V" } : Jvm.MethodName)) ∈ lw_all := lw_g (lw_at lw_m5 2 rfl) rfl
theorem q1055 : (Jvm.Cond.fieldLink "IntervalTree$SyntaxError" (9 : Nat) "IntervalTree$SyntaxError" "position" "I") ∈ lw_all := lw_g (lw_at lw_m5 3 rfl) rfl
theorem q1057 : (Jvm.Cond.laysFinal "IntervalTree$SyntaxError" "IntervalTree$SyntaxError" "position" "I") ∈ lw_all := lw_g (lw_at lw_m5 5 rfl) rfl
theorem q1058 : (Jvm.Cond.soleField "IntervalTree$SyntaxError" "position") ∈ lw_all := lw_g (lw_at lw_m5 6 rfl) rfl
theorem q1059 : (Jvm.Cond.lays "IntervalTree$SyntaxError" "java/lang/Throwable" "depth" "I") ∈ lw_all := lw_g (lw_at lw_m5 7 rfl) rfl
theorem q1060 : (Jvm.Cond.superclass "IntervalTree$SyntaxError" "java/lang/Exception") ∈ lw_all := lw_g (lw_at lw_m5 8 rfl) rfl
theorem q1804 : (Jvm.Cond.castable "IntervalTree$SyntaxError" "java/lang/Object") ∈ lw_tbl := lw_at lw_m8 32 rfl
theorem in_X6 : ∀ w ∈ wsX60, w ∈ lw_all := lw_in wsX60 [1045, 1046, 1047, 1048, 1049, 1059, 1057] (by decide +kernel) (by decide +kernel)

/-! IntervalTree$Parser -/
set_option maxRecDepth 100000
def RX5 : String := "IntervalTree$Parser"
def TX5 : u_T := fun k => match k with
  | 0 => ("IntervalTree$Parser", "at", "I", false)
  | 1 => ("IntervalTree$Parser", "references", "I", false)
  | _ => ("IntervalTree$Parser", "this$0", "LIntervalTree;", true)
def tyX5 : Nat → FieldType := fun k => match k with
  | 0 => .int
  | 1 => .int
  | _ => .object "IntervalTree"
abbrev wsX50 : List Cond := u_ws RX5 TX5 3
theorem nmX5 : ∀ a, a < 3 → ∀ b, b < 3 → a ≠ b → (TX5 a).2.1 ≠ (TX5 b).2.1 := by decide +kernel
theorem tyX5_ok : ∀ k, k < 3 → parseFieldDescriptor (TX5 k).2.2.1 = some (tyX5 k) := by decide +kernel
abbrev cX5_init : ByteArray := prog_5_method_1_code
def yX5_init : MethodName := ⟨RX5, "<init>", "(LIntervalTree;)V"⟩
def dkwX5_init_0 : List UInt8 := [42, 43, 181, 0, 3, 42, 183, 0, 9, 177]
abbrev dktX5_init_0 : List UInt8 := dkwX5_init_0 ++ []
theorem dksX5_init_0 : cX5_init.data.toList.drop 0 = dktX5_init_0 := by decide +kernel
theorem dX5_init_0 : decode cX5_init 0 = .ok (.aload_n 0, 1) := dk_42 (dk_at dksX5_init_0 0 rfl rfl)
theorem dX5_init_1 : decode cX5_init 1 = .ok (.aload_n 1, 1) := dk_43 (dk_at dksX5_init_0 1 rfl rfl)
theorem dX5_init_2 : decode cX5_init 2 = .ok (.putfield 3, 3) := dk_181 0 3 (dk_at dksX5_init_0 2 rfl rfl)
theorem dX5_init_5 : decode cX5_init 5 = .ok (.aload_n 0, 1) := dk_42 (dk_at dksX5_init_0 5 rfl rfl)
theorem dX5_init_6 : decode cX5_init 6 = .ok (.invokespecial 9, 3) := dk_183 0 9 (dk_at dksX5_init_0 6 rfl rfl)
theorem dX5_init_9 : decode cX5_init 9 = .ok (.return_, 1) := dk_177 (dk_at dksX5_init_0 9 rfl rfl)
abbrev cX5_whole : ByteArray := prog_5_method_6_code
def yX5_whole : MethodName := ⟨RX5, "whole", "()LIntervalTree$Filter;"⟩
def dkwX5_whole_1 : List UInt8 := [43, 176]
abbrev dktX5_whole_1 : List UInt8 := dkwX5_whole_1 ++ []
def dkwX5_whole_0 : List UInt8 := [42, 182, 0, 39, 76, 42, 180, 0, 15, 42, 180, 0, 3, 180, 0, 19, 162, 0, 8, 42, 182, 0, 43, 191]
abbrev dktX5_whole_0 : List UInt8 := dkwX5_whole_0 ++ dktX5_whole_1
theorem dksX5_whole_0 : cX5_whole.data.toList.drop 0 = dktX5_whole_0 := by decide +kernel
theorem dksX5_whole_1 : cX5_whole.data.toList.drop 24 = dktX5_whole_1 := dk_seg dksX5_whole_0 24 rfl rfl
theorem dX5_whole_0 : decode cX5_whole 0 = .ok (.aload_n 0, 1) := dk_42 (dk_at dksX5_whole_0 0 rfl rfl)
theorem dX5_whole_1 : decode cX5_whole 1 = .ok (.invokevirtual 39, 3) := dk_182 0 39 (dk_at dksX5_whole_0 1 rfl rfl)
theorem dX5_whole_4 : decode cX5_whole 4 = .ok (.astore_n 1, 1) := dk_76 (dk_at dksX5_whole_0 4 rfl rfl)
theorem dX5_whole_5 : decode cX5_whole 5 = .ok (.aload_n 0, 1) := dk_42 (dk_at dksX5_whole_0 5 rfl rfl)
theorem dX5_whole_6 : decode cX5_whole 6 = .ok (.getfield 15, 3) := dk_180 0 15 (dk_at dksX5_whole_0 6 rfl rfl)
theorem dX5_whole_9 : decode cX5_whole 9 = .ok (.aload_n 0, 1) := dk_42 (dk_at dksX5_whole_0 9 rfl rfl)
theorem dX5_whole_10 : decode cX5_whole 10 = .ok (.getfield 3, 3) := dk_180 0 3 (dk_at dksX5_whole_0 10 rfl rfl)
theorem dX5_whole_13 : decode cX5_whole 13 = .ok (.getfield 19, 3) := dk_180 0 19 (dk_at dksX5_whole_0 13 rfl rfl)
theorem dX5_whole_16 : decode cX5_whole 16 = .ok (.if_icmp .ge 8, 3) := dk_162 0 8 (dk_at dksX5_whole_0 16 rfl rfl)
theorem dX5_whole_19 : decode cX5_whole 19 = .ok (.aload_n 0, 1) := dk_42 (dk_at dksX5_whole_0 19 rfl rfl)
theorem dX5_whole_20 : decode cX5_whole 20 = .ok (.invokevirtual 43, 3) := dk_182 0 43 (dk_at dksX5_whole_0 20 rfl rfl)
theorem dX5_whole_23 : decode cX5_whole 23 = .ok (.athrow, 1) := dk_191 (dk_at dksX5_whole_0 23 rfl rfl)
theorem dX5_whole_24 : decode cX5_whole 24 = .ok (.aload_n 1, 1) := dk_43 (dk_at dksX5_whole_1 0 rfl rfl)
theorem dX5_whole_25 : decode cX5_whole 25 = .ok (.areturn, 1) := dk_176 (dk_at dksX5_whole_1 1 rfl rfl)
abbrev cX5_filter : ByteArray := prog_5_method_7_code
def yX5_filter : MethodName := ⟨RX5, "filter", "()LIntervalTree$Filter;"⟩
def dkwX5_filter_1 : List UInt8 := [42, 182, 0, 47, 83, 184, 0, 56, 76, 167, 255, 228, 43, 176]
abbrev dktX5_filter_1 : List UInt8 := dkwX5_filter_1 ++ []
def dkwX5_filter_0 : List UInt8 := [42, 182, 0, 47, 76, 42, 16, 124, 182, 0, 50, 153, 0, 25, 5, 189, 0, 54, 89, 3, 43, 83, 89, 4]
abbrev dktX5_filter_0 : List UInt8 := dkwX5_filter_0 ++ dktX5_filter_1
theorem dksX5_filter_0 : cX5_filter.data.toList.drop 0 = dktX5_filter_0 := by decide +kernel
theorem dksX5_filter_1 : cX5_filter.data.toList.drop 24 = dktX5_filter_1 := dk_seg dksX5_filter_0 24 rfl rfl
theorem dX5_filter_0 : decode cX5_filter 0 = .ok (.aload_n 0, 1) := dk_42 (dk_at dksX5_filter_0 0 rfl rfl)
theorem dX5_filter_1 : decode cX5_filter 1 = .ok (.invokevirtual 47, 3) := dk_182 0 47 (dk_at dksX5_filter_0 1 rfl rfl)
theorem dX5_filter_4 : decode cX5_filter 4 = .ok (.astore_n 1, 1) := dk_76 (dk_at dksX5_filter_0 4 rfl rfl)
theorem dX5_filter_5 : decode cX5_filter 5 = .ok (.aload_n 0, 1) := dk_42 (dk_at dksX5_filter_0 5 rfl rfl)
theorem dX5_filter_6 : decode cX5_filter 6 = .ok (.bipush 124, 2) := dk_16 124 (dk_at dksX5_filter_0 6 rfl rfl)
theorem dX5_filter_8 : decode cX5_filter 8 = .ok (.invokevirtual 50, 3) := dk_182 0 50 (dk_at dksX5_filter_0 8 rfl rfl)
theorem dX5_filter_11 : decode cX5_filter 11 = .ok (.ifCond .eq 25, 3) := dk_153 0 25 (dk_at dksX5_filter_0 11 rfl rfl)
theorem dX5_filter_14 : decode cX5_filter 14 = .ok (.iconst 2, 1) := dk_5 (dk_at dksX5_filter_0 14 rfl rfl)
theorem dX5_filter_15 : decode cX5_filter 15 = .ok (.anewarray 54, 3) := dk_189 0 54 (dk_at dksX5_filter_0 15 rfl rfl)
theorem dX5_filter_18 : decode cX5_filter 18 = .ok (.dup, 1) := dk_89 (dk_at dksX5_filter_0 18 rfl rfl)
theorem dX5_filter_19 : decode cX5_filter 19 = .ok (.iconst 0, 1) := dk_3 (dk_at dksX5_filter_0 19 rfl rfl)
theorem dX5_filter_20 : decode cX5_filter 20 = .ok (.aload_n 1, 1) := dk_43 (dk_at dksX5_filter_0 20 rfl rfl)
theorem dX5_filter_21 : decode cX5_filter 21 = .ok (.aastore, 1) := dk_83 (dk_at dksX5_filter_0 21 rfl rfl)
theorem dX5_filter_22 : decode cX5_filter 22 = .ok (.dup, 1) := dk_89 (dk_at dksX5_filter_0 22 rfl rfl)
theorem dX5_filter_23 : decode cX5_filter 23 = .ok (.iconst 1, 1) := dk_4 (dk_at dksX5_filter_0 23 rfl rfl)
theorem dX5_filter_24 : decode cX5_filter 24 = .ok (.aload_n 0, 1) := dk_42 (dk_at dksX5_filter_1 0 rfl rfl)
theorem dX5_filter_25 : decode cX5_filter 25 = .ok (.invokevirtual 47, 3) := dk_182 0 47 (dk_at dksX5_filter_1 1 rfl rfl)
theorem dX5_filter_28 : decode cX5_filter 28 = .ok (.aastore, 1) := dk_83 (dk_at dksX5_filter_1 4 rfl rfl)
theorem dX5_filter_29 : decode cX5_filter 29 = .ok (.invokestatic 56, 3) := dk_184 0 56 (dk_at dksX5_filter_1 5 rfl rfl)
theorem dX5_filter_32 : decode cX5_filter 32 = .ok (.astore_n 1, 1) := dk_76 (dk_at dksX5_filter_1 8 rfl rfl)
theorem dX5_filter_33 : decode cX5_filter 33 = .ok (.goto (-28), 3) := dk_167 255 228 (dk_at dksX5_filter_1 9 rfl rfl)
theorem dX5_filter_36 : decode cX5_filter 36 = .ok (.aload_n 1, 1) := dk_43 (dk_at dksX5_filter_1 12 rfl rfl)
theorem dX5_filter_37 : decode cX5_filter 37 = .ok (.areturn, 1) := dk_176 (dk_at dksX5_filter_1 13 rfl rfl)
abbrev cX5_term : ByteArray := prog_5_method_8_code
def yX5_term : MethodName := ⟨RX5, "term", "()LIntervalTree$Filter;"⟩
def dkwX5_term_1 : List UInt8 := [42, 182, 0, 60, 83, 184, 0, 63, 76, 167, 255, 228, 43, 176]
abbrev dktX5_term_1 : List UInt8 := dkwX5_term_1 ++ []
def dkwX5_term_0 : List UInt8 := [42, 182, 0, 60, 76, 42, 16, 38, 182, 0, 50, 153, 0, 25, 5, 189, 0, 54, 89, 3, 43, 83, 89, 4]
abbrev dktX5_term_0 : List UInt8 := dkwX5_term_0 ++ dktX5_term_1
theorem dksX5_term_0 : cX5_term.data.toList.drop 0 = dktX5_term_0 := by decide +kernel
theorem dksX5_term_1 : cX5_term.data.toList.drop 24 = dktX5_term_1 := dk_seg dksX5_term_0 24 rfl rfl
theorem dX5_term_0 : decode cX5_term 0 = .ok (.aload_n 0, 1) := dk_42 (dk_at dksX5_term_0 0 rfl rfl)
theorem dX5_term_1 : decode cX5_term 1 = .ok (.invokevirtual 60, 3) := dk_182 0 60 (dk_at dksX5_term_0 1 rfl rfl)
theorem dX5_term_4 : decode cX5_term 4 = .ok (.astore_n 1, 1) := dk_76 (dk_at dksX5_term_0 4 rfl rfl)
theorem dX5_term_5 : decode cX5_term 5 = .ok (.aload_n 0, 1) := dk_42 (dk_at dksX5_term_0 5 rfl rfl)
theorem dX5_term_6 : decode cX5_term 6 = .ok (.bipush 38, 2) := dk_16 38 (dk_at dksX5_term_0 6 rfl rfl)
theorem dX5_term_8 : decode cX5_term 8 = .ok (.invokevirtual 50, 3) := dk_182 0 50 (dk_at dksX5_term_0 8 rfl rfl)
theorem dX5_term_11 : decode cX5_term 11 = .ok (.ifCond .eq 25, 3) := dk_153 0 25 (dk_at dksX5_term_0 11 rfl rfl)
theorem dX5_term_14 : decode cX5_term 14 = .ok (.iconst 2, 1) := dk_5 (dk_at dksX5_term_0 14 rfl rfl)
theorem dX5_term_15 : decode cX5_term 15 = .ok (.anewarray 54, 3) := dk_189 0 54 (dk_at dksX5_term_0 15 rfl rfl)
theorem dX5_term_18 : decode cX5_term 18 = .ok (.dup, 1) := dk_89 (dk_at dksX5_term_0 18 rfl rfl)
theorem dX5_term_19 : decode cX5_term 19 = .ok (.iconst 0, 1) := dk_3 (dk_at dksX5_term_0 19 rfl rfl)
theorem dX5_term_20 : decode cX5_term 20 = .ok (.aload_n 1, 1) := dk_43 (dk_at dksX5_term_0 20 rfl rfl)
theorem dX5_term_21 : decode cX5_term 21 = .ok (.aastore, 1) := dk_83 (dk_at dksX5_term_0 21 rfl rfl)
theorem dX5_term_22 : decode cX5_term 22 = .ok (.dup, 1) := dk_89 (dk_at dksX5_term_0 22 rfl rfl)
theorem dX5_term_23 : decode cX5_term 23 = .ok (.iconst 1, 1) := dk_4 (dk_at dksX5_term_0 23 rfl rfl)
theorem dX5_term_24 : decode cX5_term 24 = .ok (.aload_n 0, 1) := dk_42 (dk_at dksX5_term_1 0 rfl rfl)
theorem dX5_term_25 : decode cX5_term 25 = .ok (.invokevirtual 60, 3) := dk_182 0 60 (dk_at dksX5_term_1 1 rfl rfl)
theorem dX5_term_28 : decode cX5_term 28 = .ok (.aastore, 1) := dk_83 (dk_at dksX5_term_1 4 rfl rfl)
theorem dX5_term_29 : decode cX5_term 29 = .ok (.invokestatic 63, 3) := dk_184 0 63 (dk_at dksX5_term_1 5 rfl rfl)
theorem dX5_term_32 : decode cX5_term 32 = .ok (.astore_n 1, 1) := dk_76 (dk_at dksX5_term_1 8 rfl rfl)
theorem dX5_term_33 : decode cX5_term 33 = .ok (.goto (-28), 3) := dk_167 255 228 (dk_at dksX5_term_1 9 rfl rfl)
theorem dX5_term_36 : decode cX5_term 36 = .ok (.aload_n 1, 1) := dk_43 (dk_at dksX5_term_1 12 rfl rfl)
theorem dX5_term_37 : decode cX5_term 37 = .ok (.areturn, 1) := dk_176 (dk_at dksX5_term_1 13 rfl rfl)
abbrev cX5_factor : ByteArray := prog_5_method_9_code
def yX5_factor : MethodName := ⟨RX5, "factor", "()LIntervalTree$Filter;"⟩
def dkwX5_factor_2 : List UInt8 := [182, 0, 39, 76, 42, 16, 41, 182, 0, 50, 154, 0, 8, 42, 182, 0, 43, 191, 43, 176]
abbrev dktX5_factor_2 : List UInt8 := dkwX5_factor_2 ++ []
def dkwX5_factor_1 : List UInt8 := [160, 0, 8, 42, 182, 0, 70, 176, 42, 16, 40, 182, 0, 50, 154, 0, 8, 42, 182, 0, 73, 176, 42]
abbrev dktX5_factor_1 : List UInt8 := dkwX5_factor_1 ++ dktX5_factor_2
def dkwX5_factor_0 : List UInt8 := [42, 16, 33, 182, 0, 50, 153, 0, 11, 42, 182, 0, 60, 184, 0, 66, 176, 42, 182, 0, 26, 16, 35]
abbrev dktX5_factor_0 : List UInt8 := dkwX5_factor_0 ++ dktX5_factor_1
theorem dksX5_factor_0 : cX5_factor.data.toList.drop 0 = dktX5_factor_0 := by decide +kernel
theorem dksX5_factor_1 : cX5_factor.data.toList.drop 23 = dktX5_factor_1 := dk_seg dksX5_factor_0 23 rfl rfl
theorem dksX5_factor_2 : cX5_factor.data.toList.drop 46 = dktX5_factor_2 := dk_seg dksX5_factor_1 23 rfl rfl
theorem dX5_factor_0 : decode cX5_factor 0 = .ok (.aload_n 0, 1) := dk_42 (dk_at dksX5_factor_0 0 rfl rfl)
theorem dX5_factor_1 : decode cX5_factor 1 = .ok (.bipush 33, 2) := dk_16 33 (dk_at dksX5_factor_0 1 rfl rfl)
theorem dX5_factor_3 : decode cX5_factor 3 = .ok (.invokevirtual 50, 3) := dk_182 0 50 (dk_at dksX5_factor_0 3 rfl rfl)
theorem dX5_factor_6 : decode cX5_factor 6 = .ok (.ifCond .eq 11, 3) := dk_153 0 11 (dk_at dksX5_factor_0 6 rfl rfl)
theorem dX5_factor_9 : decode cX5_factor 9 = .ok (.aload_n 0, 1) := dk_42 (dk_at dksX5_factor_0 9 rfl rfl)
theorem dX5_factor_10 : decode cX5_factor 10 = .ok (.invokevirtual 60, 3) := dk_182 0 60 (dk_at dksX5_factor_0 10 rfl rfl)
theorem dX5_factor_13 : decode cX5_factor 13 = .ok (.invokestatic 66, 3) := dk_184 0 66 (dk_at dksX5_factor_0 13 rfl rfl)
theorem dX5_factor_16 : decode cX5_factor 16 = .ok (.areturn, 1) := dk_176 (dk_at dksX5_factor_0 16 rfl rfl)
theorem dX5_factor_17 : decode cX5_factor 17 = .ok (.aload_n 0, 1) := dk_42 (dk_at dksX5_factor_0 17 rfl rfl)
theorem dX5_factor_18 : decode cX5_factor 18 = .ok (.invokevirtual 26, 3) := dk_182 0 26 (dk_at dksX5_factor_0 18 rfl rfl)
theorem dX5_factor_21 : decode cX5_factor 21 = .ok (.bipush 35, 2) := dk_16 35 (dk_at dksX5_factor_0 21 rfl rfl)
theorem dX5_factor_23 : decode cX5_factor 23 = .ok (.if_icmp .ne 8, 3) := dk_160 0 8 (dk_at dksX5_factor_1 0 rfl rfl)
theorem dX5_factor_26 : decode cX5_factor 26 = .ok (.aload_n 0, 1) := dk_42 (dk_at dksX5_factor_1 3 rfl rfl)
theorem dX5_factor_27 : decode cX5_factor 27 = .ok (.invokevirtual 70, 3) := dk_182 0 70 (dk_at dksX5_factor_1 4 rfl rfl)
theorem dX5_factor_30 : decode cX5_factor 30 = .ok (.areturn, 1) := dk_176 (dk_at dksX5_factor_1 7 rfl rfl)
theorem dX5_factor_31 : decode cX5_factor 31 = .ok (.aload_n 0, 1) := dk_42 (dk_at dksX5_factor_1 8 rfl rfl)
theorem dX5_factor_32 : decode cX5_factor 32 = .ok (.bipush 40, 2) := dk_16 40 (dk_at dksX5_factor_1 9 rfl rfl)
theorem dX5_factor_34 : decode cX5_factor 34 = .ok (.invokevirtual 50, 3) := dk_182 0 50 (dk_at dksX5_factor_1 11 rfl rfl)
theorem dX5_factor_37 : decode cX5_factor 37 = .ok (.ifCond .ne 8, 3) := dk_154 0 8 (dk_at dksX5_factor_1 14 rfl rfl)
theorem dX5_factor_40 : decode cX5_factor 40 = .ok (.aload_n 0, 1) := dk_42 (dk_at dksX5_factor_1 17 rfl rfl)
theorem dX5_factor_41 : decode cX5_factor 41 = .ok (.invokevirtual 73, 3) := dk_182 0 73 (dk_at dksX5_factor_1 18 rfl rfl)
theorem dX5_factor_44 : decode cX5_factor 44 = .ok (.areturn, 1) := dk_176 (dk_at dksX5_factor_1 21 rfl rfl)
theorem dX5_factor_45 : decode cX5_factor 45 = .ok (.aload_n 0, 1) := dk_42 (dk_at dksX5_factor_1 22 rfl rfl)
theorem dX5_factor_46 : decode cX5_factor 46 = .ok (.invokevirtual 39, 3) := dk_182 0 39 (dk_at dksX5_factor_2 0 rfl rfl)
theorem dX5_factor_49 : decode cX5_factor 49 = .ok (.astore_n 1, 1) := dk_76 (dk_at dksX5_factor_2 3 rfl rfl)
theorem dX5_factor_50 : decode cX5_factor 50 = .ok (.aload_n 0, 1) := dk_42 (dk_at dksX5_factor_2 4 rfl rfl)
theorem dX5_factor_51 : decode cX5_factor 51 = .ok (.bipush 41, 2) := dk_16 41 (dk_at dksX5_factor_2 5 rfl rfl)
theorem dX5_factor_53 : decode cX5_factor 53 = .ok (.invokevirtual 50, 3) := dk_182 0 50 (dk_at dksX5_factor_2 7 rfl rfl)
theorem dX5_factor_56 : decode cX5_factor 56 = .ok (.ifCond .ne 8, 3) := dk_154 0 8 (dk_at dksX5_factor_2 10 rfl rfl)
theorem dX5_factor_59 : decode cX5_factor 59 = .ok (.aload_n 0, 1) := dk_42 (dk_at dksX5_factor_2 13 rfl rfl)
theorem dX5_factor_60 : decode cX5_factor 60 = .ok (.invokevirtual 43, 3) := dk_182 0 43 (dk_at dksX5_factor_2 14 rfl rfl)
theorem dX5_factor_63 : decode cX5_factor 63 = .ok (.athrow, 1) := dk_191 (dk_at dksX5_factor_2 17 rfl rfl)
theorem dX5_factor_64 : decode cX5_factor 64 = .ok (.aload_n 1, 1) := dk_43 (dk_at dksX5_factor_2 18 rfl rfl)
theorem dX5_factor_65 : decode cX5_factor 65 = .ok (.areturn, 1) := dk_176 (dk_at dksX5_factor_2 19 rfl rfl)
abbrev cX5_skip : ByteArray := prog_5_method_3_code
def yX5_skip : MethodName := ⟨RX5, "skip", "(I)Z"⟩
def dkwX5_skip_0 : List UInt8 := [42, 182, 0, 26, 27, 159, 0, 5, 3, 172, 42, 89, 180, 0, 15, 4, 96, 181, 0, 15, 4, 172]
abbrev dktX5_skip_0 : List UInt8 := dkwX5_skip_0 ++ []
theorem dksX5_skip_0 : cX5_skip.data.toList.drop 0 = dktX5_skip_0 := by decide +kernel
theorem dX5_skip_0 : decode cX5_skip 0 = .ok (.aload_n 0, 1) := dk_42 (dk_at dksX5_skip_0 0 rfl rfl)
theorem dX5_skip_1 : decode cX5_skip 1 = .ok (.invokevirtual 26, 3) := dk_182 0 26 (dk_at dksX5_skip_0 1 rfl rfl)
theorem dX5_skip_4 : decode cX5_skip 4 = .ok (.iload_n 1, 1) := dk_27 (dk_at dksX5_skip_0 4 rfl rfl)
theorem dX5_skip_5 : decode cX5_skip 5 = .ok (.if_icmp .eq 5, 3) := dk_159 0 5 (dk_at dksX5_skip_0 5 rfl rfl)
theorem dX5_skip_8 : decode cX5_skip 8 = .ok (.iconst 0, 1) := dk_3 (dk_at dksX5_skip_0 8 rfl rfl)
theorem dX5_skip_9 : decode cX5_skip 9 = .ok (.ireturn, 1) := dk_172 (dk_at dksX5_skip_0 9 rfl rfl)
theorem dX5_skip_10 : decode cX5_skip 10 = .ok (.aload_n 0, 1) := dk_42 (dk_at dksX5_skip_0 10 rfl rfl)
theorem dX5_skip_11 : decode cX5_skip 11 = .ok (.dup, 1) := dk_89 (dk_at dksX5_skip_0 11 rfl rfl)
theorem dX5_skip_12 : decode cX5_skip 12 = .ok (.getfield 15, 3) := dk_180 0 15 (dk_at dksX5_skip_0 12 rfl rfl)
theorem dX5_skip_15 : decode cX5_skip 15 = .ok (.iconst 1, 1) := dk_4 (dk_at dksX5_skip_0 15 rfl rfl)
theorem dX5_skip_16 : decode cX5_skip 16 = .ok (.iadd, 1) := dk_96 (dk_at dksX5_skip_0 16 rfl rfl)
theorem dX5_skip_17 : decode cX5_skip 17 = .ok (.putfield 15, 3) := dk_181 0 15 (dk_at dksX5_skip_0 17 rfl rfl)
theorem dX5_skip_20 : decode cX5_skip 20 = .ok (.iconst 1, 1) := dk_4 (dk_at dksX5_skip_0 20 rfl rfl)
theorem dX5_skip_21 : decode cX5_skip 21 = .ok (.ireturn, 1) := dk_172 (dk_at dksX5_skip_0 21 rfl rfl)
abbrev cX5_here : ByteArray := prog_5_method_2_code
def yX5_here : MethodName := ⟨RX5, "here", "()I"⟩
def dkwX5_here_1 : List UInt8 := [180, 0, 15, 51, 167, 0, 4, 2, 172]
abbrev dktX5_here_1 : List UInt8 := dkwX5_here_1 ++ []
def dkwX5_here_0 : List UInt8 := [42, 180, 0, 15, 42, 180, 0, 3, 180, 0, 19, 162, 0, 18, 42, 180, 0, 3, 180, 0, 22, 42]
abbrev dktX5_here_0 : List UInt8 := dkwX5_here_0 ++ dktX5_here_1
theorem dksX5_here_0 : cX5_here.data.toList.drop 0 = dktX5_here_0 := by decide +kernel
theorem dksX5_here_1 : cX5_here.data.toList.drop 22 = dktX5_here_1 := dk_seg dksX5_here_0 22 rfl rfl
theorem dX5_here_0 : decode cX5_here 0 = .ok (.aload_n 0, 1) := dk_42 (dk_at dksX5_here_0 0 rfl rfl)
theorem dX5_here_1 : decode cX5_here 1 = .ok (.getfield 15, 3) := dk_180 0 15 (dk_at dksX5_here_0 1 rfl rfl)
theorem dX5_here_4 : decode cX5_here 4 = .ok (.aload_n 0, 1) := dk_42 (dk_at dksX5_here_0 4 rfl rfl)
theorem dX5_here_5 : decode cX5_here 5 = .ok (.getfield 3, 3) := dk_180 0 3 (dk_at dksX5_here_0 5 rfl rfl)
theorem dX5_here_8 : decode cX5_here 8 = .ok (.getfield 19, 3) := dk_180 0 19 (dk_at dksX5_here_0 8 rfl rfl)
theorem dX5_here_11 : decode cX5_here 11 = .ok (.if_icmp .ge 18, 3) := dk_162 0 18 (dk_at dksX5_here_0 11 rfl rfl)
theorem dX5_here_14 : decode cX5_here 14 = .ok (.aload_n 0, 1) := dk_42 (dk_at dksX5_here_0 14 rfl rfl)
theorem dX5_here_15 : decode cX5_here 15 = .ok (.getfield 3, 3) := dk_180 0 3 (dk_at dksX5_here_0 15 rfl rfl)
theorem dX5_here_18 : decode cX5_here 18 = .ok (.getfield 22, 3) := dk_180 0 22 (dk_at dksX5_here_0 18 rfl rfl)
theorem dX5_here_21 : decode cX5_here 21 = .ok (.aload_n 0, 1) := dk_42 (dk_at dksX5_here_0 21 rfl rfl)
theorem dX5_here_22 : decode cX5_here 22 = .ok (.getfield 15, 3) := dk_180 0 15 (dk_at dksX5_here_1 0 rfl rfl)
theorem dX5_here_25 : decode cX5_here 25 = .ok (.baload, 1) := dk_51 (dk_at dksX5_here_1 3 rfl rfl)
theorem dX5_here_26 : decode cX5_here 26 = .ok (.goto 4, 3) := dk_167 0 4 (dk_at dksX5_here_1 4 rfl rfl)
theorem dX5_here_29 : decode cX5_here 29 = .ok (.iconst (-1), 1) := dk_2 (dk_at dksX5_here_1 7 rfl rfl)
theorem dX5_here_30 : decode cX5_here 30 = .ok (.ireturn, 1) := dk_172 (dk_at dksX5_here_1 8 rfl rfl)
abbrev cX5_reference : ByteArray := prog_5_method_10_code
def yX5_reference : MethodName := ⟨RX5, "reference", "()LIntervalTree$Filter;"⟩
def dkwX5_reference_3 : List UInt8 := [181, 0, 15, 42, 180, 0, 3, 180, 0, 86, 27, 50, 176]
abbrev dktX5_reference_3 : List UInt8 := dkwX5_reference_3 ++ []
def dkwX5_reference_2 : List UInt8 := [42, 180, 0, 3, 27, 182, 0, 83, 154, 0, 8, 42, 182, 0, 43, 191, 42, 89, 180, 0, 15, 4, 96]
abbrev dktX5_reference_2 : List UInt8 := dkwX5_reference_2 ++ dktX5_reference_3
def dkwX5_reference_1 : List UInt8 := [89, 180, 0, 15, 4, 96, 181, 0, 15, 42, 182, 0, 26, 16, 48, 100, 60, 42, 182, 0, 79, 153, 0, 14]
abbrev dktX5_reference_1 : List UInt8 := dkwX5_reference_1 ++ dktX5_reference_2
def dkwX5_reference_0 : List UInt8 := [42, 180, 0, 76, 5, 160, 0, 8, 42, 182, 0, 43, 191, 42, 89, 180, 0, 76, 4, 96, 181, 0, 76, 42]
abbrev dktX5_reference_0 : List UInt8 := dkwX5_reference_0 ++ dktX5_reference_1
theorem dksX5_reference_0 : cX5_reference.data.toList.drop 0 = dktX5_reference_0 := by decide +kernel
theorem dksX5_reference_1 : cX5_reference.data.toList.drop 24 = dktX5_reference_1 := dk_seg dksX5_reference_0 24 rfl rfl
theorem dksX5_reference_2 : cX5_reference.data.toList.drop 48 = dktX5_reference_2 := dk_seg dksX5_reference_1 24 rfl rfl
theorem dksX5_reference_3 : cX5_reference.data.toList.drop 71 = dktX5_reference_3 := dk_seg dksX5_reference_2 23 rfl rfl
theorem dX5_reference_0 : decode cX5_reference 0 = .ok (.aload_n 0, 1) := dk_42 (dk_at dksX5_reference_0 0 rfl rfl)
theorem dX5_reference_1 : decode cX5_reference 1 = .ok (.getfield 76, 3) := dk_180 0 76 (dk_at dksX5_reference_0 1 rfl rfl)
theorem dX5_reference_4 : decode cX5_reference 4 = .ok (.iconst 2, 1) := dk_5 (dk_at dksX5_reference_0 4 rfl rfl)
theorem dX5_reference_5 : decode cX5_reference 5 = .ok (.if_icmp .ne 8, 3) := dk_160 0 8 (dk_at dksX5_reference_0 5 rfl rfl)
theorem dX5_reference_8 : decode cX5_reference 8 = .ok (.aload_n 0, 1) := dk_42 (dk_at dksX5_reference_0 8 rfl rfl)
theorem dX5_reference_9 : decode cX5_reference 9 = .ok (.invokevirtual 43, 3) := dk_182 0 43 (dk_at dksX5_reference_0 9 rfl rfl)
theorem dX5_reference_12 : decode cX5_reference 12 = .ok (.athrow, 1) := dk_191 (dk_at dksX5_reference_0 12 rfl rfl)
theorem dX5_reference_13 : decode cX5_reference 13 = .ok (.aload_n 0, 1) := dk_42 (dk_at dksX5_reference_0 13 rfl rfl)
theorem dX5_reference_14 : decode cX5_reference 14 = .ok (.dup, 1) := dk_89 (dk_at dksX5_reference_0 14 rfl rfl)
theorem dX5_reference_15 : decode cX5_reference 15 = .ok (.getfield 76, 3) := dk_180 0 76 (dk_at dksX5_reference_0 15 rfl rfl)
theorem dX5_reference_18 : decode cX5_reference 18 = .ok (.iconst 1, 1) := dk_4 (dk_at dksX5_reference_0 18 rfl rfl)
theorem dX5_reference_19 : decode cX5_reference 19 = .ok (.iadd, 1) := dk_96 (dk_at dksX5_reference_0 19 rfl rfl)
theorem dX5_reference_20 : decode cX5_reference 20 = .ok (.putfield 76, 3) := dk_181 0 76 (dk_at dksX5_reference_0 20 rfl rfl)
theorem dX5_reference_23 : decode cX5_reference 23 = .ok (.aload_n 0, 1) := dk_42 (dk_at dksX5_reference_0 23 rfl rfl)
theorem dX5_reference_24 : decode cX5_reference 24 = .ok (.dup, 1) := dk_89 (dk_at dksX5_reference_1 0 rfl rfl)
theorem dX5_reference_25 : decode cX5_reference 25 = .ok (.getfield 15, 3) := dk_180 0 15 (dk_at dksX5_reference_1 1 rfl rfl)
theorem dX5_reference_28 : decode cX5_reference 28 = .ok (.iconst 1, 1) := dk_4 (dk_at dksX5_reference_1 4 rfl rfl)
theorem dX5_reference_29 : decode cX5_reference 29 = .ok (.iadd, 1) := dk_96 (dk_at dksX5_reference_1 5 rfl rfl)
theorem dX5_reference_30 : decode cX5_reference 30 = .ok (.putfield 15, 3) := dk_181 0 15 (dk_at dksX5_reference_1 6 rfl rfl)
theorem dX5_reference_33 : decode cX5_reference 33 = .ok (.aload_n 0, 1) := dk_42 (dk_at dksX5_reference_1 9 rfl rfl)
theorem dX5_reference_34 : decode cX5_reference 34 = .ok (.invokevirtual 26, 3) := dk_182 0 26 (dk_at dksX5_reference_1 10 rfl rfl)
theorem dX5_reference_37 : decode cX5_reference 37 = .ok (.bipush 48, 2) := dk_16 48 (dk_at dksX5_reference_1 13 rfl rfl)
theorem dX5_reference_39 : decode cX5_reference 39 = .ok (.isub, 1) := dk_100 (dk_at dksX5_reference_1 15 rfl rfl)
theorem dX5_reference_40 : decode cX5_reference 40 = .ok (.istore_n 1, 1) := dk_60 (dk_at dksX5_reference_1 16 rfl rfl)
theorem dX5_reference_41 : decode cX5_reference 41 = .ok (.aload_n 0, 1) := dk_42 (dk_at dksX5_reference_1 17 rfl rfl)
theorem dX5_reference_42 : decode cX5_reference 42 = .ok (.invokevirtual 79, 3) := dk_182 0 79 (dk_at dksX5_reference_1 18 rfl rfl)
theorem dX5_reference_45 : decode cX5_reference 45 = .ok (.ifCond .eq 14, 3) := dk_153 0 14 (dk_at dksX5_reference_1 21 rfl rfl)
theorem dX5_reference_48 : decode cX5_reference 48 = .ok (.aload_n 0, 1) := dk_42 (dk_at dksX5_reference_2 0 rfl rfl)
theorem dX5_reference_49 : decode cX5_reference 49 = .ok (.getfield 3, 3) := dk_180 0 3 (dk_at dksX5_reference_2 1 rfl rfl)
theorem dX5_reference_52 : decode cX5_reference 52 = .ok (.iload_n 1, 1) := dk_27 (dk_at dksX5_reference_2 4 rfl rfl)
theorem dX5_reference_53 : decode cX5_reference 53 = .ok (.invokevirtual 83, 3) := dk_182 0 83 (dk_at dksX5_reference_2 5 rfl rfl)
theorem dX5_reference_56 : decode cX5_reference 56 = .ok (.ifCond .ne 8, 3) := dk_154 0 8 (dk_at dksX5_reference_2 8 rfl rfl)
theorem dX5_reference_59 : decode cX5_reference 59 = .ok (.aload_n 0, 1) := dk_42 (dk_at dksX5_reference_2 11 rfl rfl)
theorem dX5_reference_60 : decode cX5_reference 60 = .ok (.invokevirtual 43, 3) := dk_182 0 43 (dk_at dksX5_reference_2 12 rfl rfl)
theorem dX5_reference_63 : decode cX5_reference 63 = .ok (.athrow, 1) := dk_191 (dk_at dksX5_reference_2 15 rfl rfl)
theorem dX5_reference_64 : decode cX5_reference 64 = .ok (.aload_n 0, 1) := dk_42 (dk_at dksX5_reference_2 16 rfl rfl)
theorem dX5_reference_65 : decode cX5_reference 65 = .ok (.dup, 1) := dk_89 (dk_at dksX5_reference_2 17 rfl rfl)
theorem dX5_reference_66 : decode cX5_reference 66 = .ok (.getfield 15, 3) := dk_180 0 15 (dk_at dksX5_reference_2 18 rfl rfl)
theorem dX5_reference_69 : decode cX5_reference 69 = .ok (.iconst 1, 1) := dk_4 (dk_at dksX5_reference_2 21 rfl rfl)
theorem dX5_reference_70 : decode cX5_reference 70 = .ok (.iadd, 1) := dk_96 (dk_at dksX5_reference_2 22 rfl rfl)
theorem dX5_reference_71 : decode cX5_reference 71 = .ok (.putfield 15, 3) := dk_181 0 15 (dk_at dksX5_reference_3 0 rfl rfl)
theorem dX5_reference_74 : decode cX5_reference 74 = .ok (.aload_n 0, 1) := dk_42 (dk_at dksX5_reference_3 3 rfl rfl)
theorem dX5_reference_75 : decode cX5_reference 75 = .ok (.getfield 3, 3) := dk_180 0 3 (dk_at dksX5_reference_3 4 rfl rfl)
theorem dX5_reference_78 : decode cX5_reference 78 = .ok (.getfield 86, 3) := dk_180 0 86 (dk_at dksX5_reference_3 7 rfl rfl)
theorem dX5_reference_81 : decode cX5_reference 81 = .ok (.iload_n 1, 1) := dk_27 (dk_at dksX5_reference_3 10 rfl rfl)
theorem dX5_reference_82 : decode cX5_reference 82 = .ok (.aaload, 1) := dk_50 (dk_at dksX5_reference_3 11 rfl rfl)
theorem dX5_reference_83 : decode cX5_reference 83 = .ok (.areturn, 1) := dk_176 (dk_at dksX5_reference_3 12 rfl rfl)
abbrev cX5_error : ByteArray := prog_5_method_4_code
def yX5_error : MethodName := ⟨RX5, "error", "()LIntervalTree$SyntaxError;"⟩
def dkwX5_error_0 : List UInt8 := [187, 0, 30, 89, 42, 180, 0, 15, 183, 0, 32, 176]
abbrev dktX5_error_0 : List UInt8 := dkwX5_error_0 ++ []
theorem dksX5_error_0 : cX5_error.data.toList.drop 0 = dktX5_error_0 := by decide +kernel
theorem dX5_error_0 : decode cX5_error 0 = .ok (.new 30, 3) := dk_187 0 30 (dk_at dksX5_error_0 0 rfl rfl)
theorem dX5_error_3 : decode cX5_error 3 = .ok (.dup, 1) := dk_89 (dk_at dksX5_error_0 3 rfl rfl)
theorem dX5_error_4 : decode cX5_error 4 = .ok (.aload_n 0, 1) := dk_42 (dk_at dksX5_error_0 4 rfl rfl)
theorem dX5_error_5 : decode cX5_error 5 = .ok (.getfield 15, 3) := dk_180 0 15 (dk_at dksX5_error_0 5 rfl rfl)
theorem dX5_error_8 : decode cX5_error 8 = .ok (.invokespecial 32, 3) := dk_183 0 32 (dk_at dksX5_error_0 8 rfl rfl)
theorem dX5_error_11 : decode cX5_error 11 = .ok (.areturn, 1) := dk_176 (dk_at dksX5_error_0 11 rfl rfl)
abbrev cX5_isDigit : ByteArray := prog_5_method_5_code
def yX5_isDigit : MethodName := ⟨RX5, "isDigit", "()Z"⟩
def dkwX5_isDigit_0 : List UInt8 := [42, 182, 0, 26, 16, 48, 16, 57, 184, 0, 35, 172]
abbrev dktX5_isDigit_0 : List UInt8 := dkwX5_isDigit_0 ++ []
theorem dksX5_isDigit_0 : cX5_isDigit.data.toList.drop 0 = dktX5_isDigit_0 := by decide +kernel
theorem dX5_isDigit_0 : decode cX5_isDigit 0 = .ok (.aload_n 0, 1) := dk_42 (dk_at dksX5_isDigit_0 0 rfl rfl)
theorem dX5_isDigit_1 : decode cX5_isDigit 1 = .ok (.invokevirtual 26, 3) := dk_182 0 26 (dk_at dksX5_isDigit_0 1 rfl rfl)
theorem dX5_isDigit_4 : decode cX5_isDigit 4 = .ok (.bipush 48, 2) := dk_16 48 (dk_at dksX5_isDigit_0 4 rfl rfl)
theorem dX5_isDigit_6 : decode cX5_isDigit 6 = .ok (.bipush 57, 2) := dk_16 57 (dk_at dksX5_isDigit_0 6 rfl rfl)
theorem dX5_isDigit_8 : decode cX5_isDigit 8 = .ok (.invokestatic 35, 3) := dk_184 0 35 (dk_at dksX5_isDigit_0 8 rfl rfl)
theorem dX5_isDigit_11 : decode cX5_isDigit 11 = .ok (.ireturn, 1) := dk_172 (dk_at dksX5_isDigit_0 11 rfl rfl)
abbrev cX5_comparison : ByteArray := prog_5_method_13_code
def yX5_comparison : MethodName := ⟨RX5, "comparison", "()LIntervalTree$Filter;"⟩
def dkwX5_comparison_3 : List UInt8 := [182, 0, 113, 167, 0, 9, 42, 43, 29, 182, 0, 116, 176]
abbrev dktX5_comparison_3 : List UInt8 := dkwX5_comparison_3 ++ []
def dkwX5_comparison_2 : List UInt8 := [62, 28, 16, 61, 160, 0, 11, 43, 29, 186, 0, 109, 0, 0, 176, 28, 16, 60, 160, 0, 12, 42, 43, 29]
abbrev dktX5_comparison_2 : List UInt8 := dkwX5_comparison_2 ++ dktX5_comparison_3
def dkwX5_comparison_1 : List UInt8 := [16, 62, 159, 0, 8, 42, 182, 0, 43, 191, 42, 89, 180, 0, 15, 4, 96, 181, 0, 15, 42, 182, 0, 106]
abbrev dktX5_comparison_1 : List UInt8 := dkwX5_comparison_1 ++ dktX5_comparison_2
def dkwX5_comparison_0 : List UInt8 := [42, 182, 0, 102, 76, 42, 182, 0, 26, 61, 28, 16, 60, 159, 0, 20, 28, 16, 61, 159, 0, 14, 28]
abbrev dktX5_comparison_0 : List UInt8 := dkwX5_comparison_0 ++ dktX5_comparison_1
theorem dksX5_comparison_0 : cX5_comparison.data.toList.drop 0 = dktX5_comparison_0 := by decide +kernel
theorem dksX5_comparison_1 : cX5_comparison.data.toList.drop 23 = dktX5_comparison_1 := dk_seg dksX5_comparison_0 23 rfl rfl
theorem dksX5_comparison_2 : cX5_comparison.data.toList.drop 47 = dktX5_comparison_2 := dk_seg dksX5_comparison_1 24 rfl rfl
theorem dksX5_comparison_3 : cX5_comparison.data.toList.drop 71 = dktX5_comparison_3 := dk_seg dksX5_comparison_2 24 rfl rfl
theorem dX5_comparison_0 : decode cX5_comparison 0 = .ok (.aload_n 0, 1) := dk_42 (dk_at dksX5_comparison_0 0 rfl rfl)
theorem dX5_comparison_1 : decode cX5_comparison 1 = .ok (.invokevirtual 102, 3) := dk_182 0 102 (dk_at dksX5_comparison_0 1 rfl rfl)
theorem dX5_comparison_4 : decode cX5_comparison 4 = .ok (.astore_n 1, 1) := dk_76 (dk_at dksX5_comparison_0 4 rfl rfl)
theorem dX5_comparison_5 : decode cX5_comparison 5 = .ok (.aload_n 0, 1) := dk_42 (dk_at dksX5_comparison_0 5 rfl rfl)
theorem dX5_comparison_6 : decode cX5_comparison 6 = .ok (.invokevirtual 26, 3) := dk_182 0 26 (dk_at dksX5_comparison_0 6 rfl rfl)
theorem dX5_comparison_9 : decode cX5_comparison 9 = .ok (.istore_n 2, 1) := dk_61 (dk_at dksX5_comparison_0 9 rfl rfl)
theorem dX5_comparison_10 : decode cX5_comparison 10 = .ok (.iload_n 2, 1) := dk_28 (dk_at dksX5_comparison_0 10 rfl rfl)
theorem dX5_comparison_11 : decode cX5_comparison 11 = .ok (.bipush 60, 2) := dk_16 60 (dk_at dksX5_comparison_0 11 rfl rfl)
theorem dX5_comparison_13 : decode cX5_comparison 13 = .ok (.if_icmp .eq 20, 3) := dk_159 0 20 (dk_at dksX5_comparison_0 13 rfl rfl)
theorem dX5_comparison_16 : decode cX5_comparison 16 = .ok (.iload_n 2, 1) := dk_28 (dk_at dksX5_comparison_0 16 rfl rfl)
theorem dX5_comparison_17 : decode cX5_comparison 17 = .ok (.bipush 61, 2) := dk_16 61 (dk_at dksX5_comparison_0 17 rfl rfl)
theorem dX5_comparison_19 : decode cX5_comparison 19 = .ok (.if_icmp .eq 14, 3) := dk_159 0 14 (dk_at dksX5_comparison_0 19 rfl rfl)
theorem dX5_comparison_22 : decode cX5_comparison 22 = .ok (.iload_n 2, 1) := dk_28 (dk_at dksX5_comparison_0 22 rfl rfl)
theorem dX5_comparison_23 : decode cX5_comparison 23 = .ok (.bipush 62, 2) := dk_16 62 (dk_at dksX5_comparison_1 0 rfl rfl)
theorem dX5_comparison_25 : decode cX5_comparison 25 = .ok (.if_icmp .eq 8, 3) := dk_159 0 8 (dk_at dksX5_comparison_1 2 rfl rfl)
theorem dX5_comparison_28 : decode cX5_comparison 28 = .ok (.aload_n 0, 1) := dk_42 (dk_at dksX5_comparison_1 5 rfl rfl)
theorem dX5_comparison_29 : decode cX5_comparison 29 = .ok (.invokevirtual 43, 3) := dk_182 0 43 (dk_at dksX5_comparison_1 6 rfl rfl)
theorem dX5_comparison_32 : decode cX5_comparison 32 = .ok (.athrow, 1) := dk_191 (dk_at dksX5_comparison_1 9 rfl rfl)
theorem dX5_comparison_33 : decode cX5_comparison 33 = .ok (.aload_n 0, 1) := dk_42 (dk_at dksX5_comparison_1 10 rfl rfl)
theorem dX5_comparison_34 : decode cX5_comparison 34 = .ok (.dup, 1) := dk_89 (dk_at dksX5_comparison_1 11 rfl rfl)
theorem dX5_comparison_35 : decode cX5_comparison 35 = .ok (.getfield 15, 3) := dk_180 0 15 (dk_at dksX5_comparison_1 12 rfl rfl)
theorem dX5_comparison_38 : decode cX5_comparison 38 = .ok (.iconst 1, 1) := dk_4 (dk_at dksX5_comparison_1 15 rfl rfl)
theorem dX5_comparison_39 : decode cX5_comparison 39 = .ok (.iadd, 1) := dk_96 (dk_at dksX5_comparison_1 16 rfl rfl)
theorem dX5_comparison_40 : decode cX5_comparison 40 = .ok (.putfield 15, 3) := dk_181 0 15 (dk_at dksX5_comparison_1 17 rfl rfl)
theorem dX5_comparison_43 : decode cX5_comparison 43 = .ok (.aload_n 0, 1) := dk_42 (dk_at dksX5_comparison_1 20 rfl rfl)
theorem dX5_comparison_44 : decode cX5_comparison 44 = .ok (.invokevirtual 106, 3) := dk_182 0 106 (dk_at dksX5_comparison_1 21 rfl rfl)
theorem dX5_comparison_47 : decode cX5_comparison 47 = .ok (.istore_n 3, 1) := dk_62 (dk_at dksX5_comparison_2 0 rfl rfl)
theorem dX5_comparison_48 : decode cX5_comparison 48 = .ok (.iload_n 2, 1) := dk_28 (dk_at dksX5_comparison_2 1 rfl rfl)
theorem dX5_comparison_49 : decode cX5_comparison 49 = .ok (.bipush 61, 2) := dk_16 61 (dk_at dksX5_comparison_2 2 rfl rfl)
theorem dX5_comparison_51 : decode cX5_comparison 51 = .ok (.if_icmp .ne 11, 3) := dk_160 0 11 (dk_at dksX5_comparison_2 4 rfl rfl)
theorem dX5_comparison_54 : decode cX5_comparison 54 = .ok (.aload_n 1, 1) := dk_43 (dk_at dksX5_comparison_2 7 rfl rfl)
theorem dX5_comparison_55 : decode cX5_comparison 55 = .ok (.iload_n 3, 1) := dk_29 (dk_at dksX5_comparison_2 8 rfl rfl)
theorem dX5_comparison_56 : decode cX5_comparison 56 = .ok (.invokedynamic 109, 5) := by decide +kernel
theorem dX5_comparison_61 : decode cX5_comparison 61 = .ok (.areturn, 1) := dk_176 (dk_at dksX5_comparison_2 14 rfl rfl)
theorem dX5_comparison_62 : decode cX5_comparison 62 = .ok (.iload_n 2, 1) := dk_28 (dk_at dksX5_comparison_2 15 rfl rfl)
theorem dX5_comparison_63 : decode cX5_comparison 63 = .ok (.bipush 60, 2) := dk_16 60 (dk_at dksX5_comparison_2 16 rfl rfl)
theorem dX5_comparison_65 : decode cX5_comparison 65 = .ok (.if_icmp .ne 12, 3) := dk_160 0 12 (dk_at dksX5_comparison_2 18 rfl rfl)
theorem dX5_comparison_68 : decode cX5_comparison 68 = .ok (.aload_n 0, 1) := dk_42 (dk_at dksX5_comparison_2 21 rfl rfl)
theorem dX5_comparison_69 : decode cX5_comparison 69 = .ok (.aload_n 1, 1) := dk_43 (dk_at dksX5_comparison_2 22 rfl rfl)
theorem dX5_comparison_70 : decode cX5_comparison 70 = .ok (.iload_n 3, 1) := dk_29 (dk_at dksX5_comparison_2 23 rfl rfl)
theorem dX5_comparison_71 : decode cX5_comparison 71 = .ok (.invokevirtual 113, 3) := dk_182 0 113 (dk_at dksX5_comparison_3 0 rfl rfl)
theorem dX5_comparison_74 : decode cX5_comparison 74 = .ok (.goto 9, 3) := dk_167 0 9 (dk_at dksX5_comparison_3 3 rfl rfl)
theorem dX5_comparison_77 : decode cX5_comparison 77 = .ok (.aload_n 0, 1) := dk_42 (dk_at dksX5_comparison_3 6 rfl rfl)
theorem dX5_comparison_78 : decode cX5_comparison 78 = .ok (.aload_n 1, 1) := dk_43 (dk_at dksX5_comparison_3 7 rfl rfl)
theorem dX5_comparison_79 : decode cX5_comparison 79 = .ok (.iload_n 3, 1) := dk_29 (dk_at dksX5_comparison_3 8 rfl rfl)
theorem dX5_comparison_80 : decode cX5_comparison 80 = .ok (.invokevirtual 116, 3) := dk_182 0 116 (dk_at dksX5_comparison_3 9 rfl rfl)
theorem dX5_comparison_83 : decode cX5_comparison 83 = .ok (.areturn, 1) := dk_176 (dk_at dksX5_comparison_3 12 rfl rfl)
abbrev cX5_property : ByteArray := prog_5_method_11_code
def yX5_property : MethodName := ⟨RX5, "property", "()LIntervalTree$Property;"⟩
def dkwX5_property_1 : List UInt8 := [4, 96, 181, 0, 15, 42, 180, 0, 3, 180, 0, 98, 27, 50, 176]
abbrev dktX5_property_1 : List UInt8 := dkwX5_property_1 ++ []
def dkwX5_property_0 : List UInt8 := [18, 90, 42, 182, 0, 26, 182, 0, 92, 60, 27, 156, 0, 8, 42, 182, 0, 43, 191, 42, 89, 180, 0, 15]
abbrev dktX5_property_0 : List UInt8 := dkwX5_property_0 ++ dktX5_property_1
theorem dksX5_property_0 : cX5_property.data.toList.drop 0 = dktX5_property_0 := by decide +kernel
theorem dksX5_property_1 : cX5_property.data.toList.drop 24 = dktX5_property_1 := dk_seg dksX5_property_0 24 rfl rfl
theorem dX5_property_0 : decode cX5_property 0 = .ok (.ldc 90, 2) := dk_18 90 (dk_at dksX5_property_0 0 rfl rfl)
theorem dX5_property_2 : decode cX5_property 2 = .ok (.aload_n 0, 1) := dk_42 (dk_at dksX5_property_0 2 rfl rfl)
theorem dX5_property_3 : decode cX5_property 3 = .ok (.invokevirtual 26, 3) := dk_182 0 26 (dk_at dksX5_property_0 3 rfl rfl)
theorem dX5_property_6 : decode cX5_property 6 = .ok (.invokevirtual 92, 3) := dk_182 0 92 (dk_at dksX5_property_0 6 rfl rfl)
theorem dX5_property_9 : decode cX5_property 9 = .ok (.istore_n 1, 1) := dk_60 (dk_at dksX5_property_0 9 rfl rfl)
theorem dX5_property_10 : decode cX5_property 10 = .ok (.iload_n 1, 1) := dk_27 (dk_at dksX5_property_0 10 rfl rfl)
theorem dX5_property_11 : decode cX5_property 11 = .ok (.ifCond .ge 8, 3) := dk_156 0 8 (dk_at dksX5_property_0 11 rfl rfl)
theorem dX5_property_14 : decode cX5_property 14 = .ok (.aload_n 0, 1) := dk_42 (dk_at dksX5_property_0 14 rfl rfl)
theorem dX5_property_15 : decode cX5_property 15 = .ok (.invokevirtual 43, 3) := dk_182 0 43 (dk_at dksX5_property_0 15 rfl rfl)
theorem dX5_property_18 : decode cX5_property 18 = .ok (.athrow, 1) := dk_191 (dk_at dksX5_property_0 18 rfl rfl)
theorem dX5_property_19 : decode cX5_property 19 = .ok (.aload_n 0, 1) := dk_42 (dk_at dksX5_property_0 19 rfl rfl)
theorem dX5_property_20 : decode cX5_property 20 = .ok (.dup, 1) := dk_89 (dk_at dksX5_property_0 20 rfl rfl)
theorem dX5_property_21 : decode cX5_property 21 = .ok (.getfield 15, 3) := dk_180 0 15 (dk_at dksX5_property_0 21 rfl rfl)
theorem dX5_property_24 : decode cX5_property 24 = .ok (.iconst 1, 1) := dk_4 (dk_at dksX5_property_1 0 rfl rfl)
theorem dX5_property_25 : decode cX5_property 25 = .ok (.iadd, 1) := dk_96 (dk_at dksX5_property_1 1 rfl rfl)
theorem dX5_property_26 : decode cX5_property 26 = .ok (.putfield 15, 3) := dk_181 0 15 (dk_at dksX5_property_1 2 rfl rfl)
theorem dX5_property_29 : decode cX5_property 29 = .ok (.aload_n 0, 1) := dk_42 (dk_at dksX5_property_1 5 rfl rfl)
theorem dX5_property_30 : decode cX5_property 30 = .ok (.getfield 3, 3) := dk_180 0 3 (dk_at dksX5_property_1 6 rfl rfl)
theorem dX5_property_33 : decode cX5_property 33 = .ok (.getfield 98, 3) := dk_180 0 98 (dk_at dksX5_property_1 9 rfl rfl)
theorem dX5_property_36 : decode cX5_property 36 = .ok (.iload_n 1, 1) := dk_27 (dk_at dksX5_property_1 12 rfl rfl)
theorem dX5_property_37 : decode cX5_property 37 = .ok (.aaload, 1) := dk_50 (dk_at dksX5_property_1 13 rfl rfl)
theorem dX5_property_38 : decode cX5_property 38 = .ok (.areturn, 1) := dk_176 (dk_at dksX5_property_1 14 rfl rfl)
abbrev cX5_number : ByteArray := prog_5_method_12_code
def yX5_number : MethodName := ⟨RX5, "number", "()I"⟩
def dkwX5_number_3 : List UInt8 := [167, 0, 4, 28, 172]
abbrev dktX5_number_3 : List UInt8 := dkwX5_number_3 ++ []
def dkwX5_number_2 : List UInt8 := [42, 89, 180, 0, 15, 4, 96, 181, 0, 15, 132, 3, 1, 167, 255, 218, 27, 153, 0, 8, 28, 116]
abbrev dktX5_number_2 : List UInt8 := dkwX5_number_2 ++ dktX5_number_3
def dkwX5_number_1 : List UInt8 := [7, 162, 0, 39, 42, 182, 0, 79, 153, 0, 32, 16, 10, 28, 104, 42, 182, 0, 26, 96, 16, 48, 100, 61]
abbrev dktX5_number_1 : List UInt8 := dkwX5_number_1 ++ dktX5_number_2
def dkwX5_number_0 : List UInt8 := [42, 16, 45, 182, 0, 50, 60, 42, 182, 0, 79, 154, 0, 8, 42, 182, 0, 43, 191, 3, 61, 3, 62, 29]
abbrev dktX5_number_0 : List UInt8 := dkwX5_number_0 ++ dktX5_number_1
theorem dksX5_number_0 : cX5_number.data.toList.drop 0 = dktX5_number_0 := by decide +kernel
theorem dksX5_number_1 : cX5_number.data.toList.drop 24 = dktX5_number_1 := dk_seg dksX5_number_0 24 rfl rfl
theorem dksX5_number_2 : cX5_number.data.toList.drop 48 = dktX5_number_2 := dk_seg dksX5_number_1 24 rfl rfl
theorem dksX5_number_3 : cX5_number.data.toList.drop 70 = dktX5_number_3 := dk_seg dksX5_number_2 22 rfl rfl
theorem dX5_number_0 : decode cX5_number 0 = .ok (.aload_n 0, 1) := dk_42 (dk_at dksX5_number_0 0 rfl rfl)
theorem dX5_number_1 : decode cX5_number 1 = .ok (.bipush 45, 2) := dk_16 45 (dk_at dksX5_number_0 1 rfl rfl)
theorem dX5_number_3 : decode cX5_number 3 = .ok (.invokevirtual 50, 3) := dk_182 0 50 (dk_at dksX5_number_0 3 rfl rfl)
theorem dX5_number_6 : decode cX5_number 6 = .ok (.istore_n 1, 1) := dk_60 (dk_at dksX5_number_0 6 rfl rfl)
theorem dX5_number_7 : decode cX5_number 7 = .ok (.aload_n 0, 1) := dk_42 (dk_at dksX5_number_0 7 rfl rfl)
theorem dX5_number_8 : decode cX5_number 8 = .ok (.invokevirtual 79, 3) := dk_182 0 79 (dk_at dksX5_number_0 8 rfl rfl)
theorem dX5_number_11 : decode cX5_number 11 = .ok (.ifCond .ne 8, 3) := dk_154 0 8 (dk_at dksX5_number_0 11 rfl rfl)
theorem dX5_number_14 : decode cX5_number 14 = .ok (.aload_n 0, 1) := dk_42 (dk_at dksX5_number_0 14 rfl rfl)
theorem dX5_number_15 : decode cX5_number 15 = .ok (.invokevirtual 43, 3) := dk_182 0 43 (dk_at dksX5_number_0 15 rfl rfl)
theorem dX5_number_18 : decode cX5_number 18 = .ok (.athrow, 1) := dk_191 (dk_at dksX5_number_0 18 rfl rfl)
theorem dX5_number_19 : decode cX5_number 19 = .ok (.iconst 0, 1) := dk_3 (dk_at dksX5_number_0 19 rfl rfl)
theorem dX5_number_20 : decode cX5_number 20 = .ok (.istore_n 2, 1) := dk_61 (dk_at dksX5_number_0 20 rfl rfl)
theorem dX5_number_21 : decode cX5_number 21 = .ok (.iconst 0, 1) := dk_3 (dk_at dksX5_number_0 21 rfl rfl)
theorem dX5_number_22 : decode cX5_number 22 = .ok (.istore_n 3, 1) := dk_62 (dk_at dksX5_number_0 22 rfl rfl)
theorem dX5_number_23 : decode cX5_number 23 = .ok (.iload_n 3, 1) := dk_29 (dk_at dksX5_number_0 23 rfl rfl)
theorem dX5_number_24 : decode cX5_number 24 = .ok (.iconst 4, 1) := dk_7 (dk_at dksX5_number_1 0 rfl rfl)
theorem dX5_number_25 : decode cX5_number 25 = .ok (.if_icmp .ge 39, 3) := dk_162 0 39 (dk_at dksX5_number_1 1 rfl rfl)
theorem dX5_number_28 : decode cX5_number 28 = .ok (.aload_n 0, 1) := dk_42 (dk_at dksX5_number_1 4 rfl rfl)
theorem dX5_number_29 : decode cX5_number 29 = .ok (.invokevirtual 79, 3) := dk_182 0 79 (dk_at dksX5_number_1 5 rfl rfl)
theorem dX5_number_32 : decode cX5_number 32 = .ok (.ifCond .eq 32, 3) := dk_153 0 32 (dk_at dksX5_number_1 8 rfl rfl)
theorem dX5_number_35 : decode cX5_number 35 = .ok (.bipush 10, 2) := dk_16 10 (dk_at dksX5_number_1 11 rfl rfl)
theorem dX5_number_37 : decode cX5_number 37 = .ok (.iload_n 2, 1) := dk_28 (dk_at dksX5_number_1 13 rfl rfl)
theorem dX5_number_38 : decode cX5_number 38 = .ok (.imul, 1) := dk_104 (dk_at dksX5_number_1 14 rfl rfl)
theorem dX5_number_39 : decode cX5_number 39 = .ok (.aload_n 0, 1) := dk_42 (dk_at dksX5_number_1 15 rfl rfl)
theorem dX5_number_40 : decode cX5_number 40 = .ok (.invokevirtual 26, 3) := dk_182 0 26 (dk_at dksX5_number_1 16 rfl rfl)
theorem dX5_number_43 : decode cX5_number 43 = .ok (.iadd, 1) := dk_96 (dk_at dksX5_number_1 19 rfl rfl)
theorem dX5_number_44 : decode cX5_number 44 = .ok (.bipush 48, 2) := dk_16 48 (dk_at dksX5_number_1 20 rfl rfl)
theorem dX5_number_46 : decode cX5_number 46 = .ok (.isub, 1) := dk_100 (dk_at dksX5_number_1 22 rfl rfl)
theorem dX5_number_47 : decode cX5_number 47 = .ok (.istore_n 2, 1) := dk_61 (dk_at dksX5_number_1 23 rfl rfl)
theorem dX5_number_48 : decode cX5_number 48 = .ok (.aload_n 0, 1) := dk_42 (dk_at dksX5_number_2 0 rfl rfl)
theorem dX5_number_49 : decode cX5_number 49 = .ok (.dup, 1) := dk_89 (dk_at dksX5_number_2 1 rfl rfl)
theorem dX5_number_50 : decode cX5_number 50 = .ok (.getfield 15, 3) := dk_180 0 15 (dk_at dksX5_number_2 2 rfl rfl)
theorem dX5_number_53 : decode cX5_number 53 = .ok (.iconst 1, 1) := dk_4 (dk_at dksX5_number_2 5 rfl rfl)
theorem dX5_number_54 : decode cX5_number 54 = .ok (.iadd, 1) := dk_96 (dk_at dksX5_number_2 6 rfl rfl)
theorem dX5_number_55 : decode cX5_number 55 = .ok (.putfield 15, 3) := dk_181 0 15 (dk_at dksX5_number_2 7 rfl rfl)
theorem dX5_number_58 : decode cX5_number 58 = .ok (.iinc 3 1, 3) := dk_132 3 1 (dk_at dksX5_number_2 10 rfl rfl)
theorem dX5_number_61 : decode cX5_number 61 = .ok (.goto (-38), 3) := dk_167 255 218 (dk_at dksX5_number_2 13 rfl rfl)
theorem dX5_number_64 : decode cX5_number 64 = .ok (.iload_n 1, 1) := dk_27 (dk_at dksX5_number_2 16 rfl rfl)
theorem dX5_number_65 : decode cX5_number 65 = .ok (.ifCond .eq 8, 3) := dk_153 0 8 (dk_at dksX5_number_2 17 rfl rfl)
theorem dX5_number_68 : decode cX5_number 68 = .ok (.iload_n 2, 1) := dk_28 (dk_at dksX5_number_2 20 rfl rfl)
theorem dX5_number_69 : decode cX5_number 69 = .ok (.ineg, 1) := dk_116 (dk_at dksX5_number_2 21 rfl rfl)
theorem dX5_number_70 : decode cX5_number 70 = .ok (.goto 4, 3) := dk_167 0 4 (dk_at dksX5_number_3 0 rfl rfl)
theorem dX5_number_73 : decode cX5_number 73 = .ok (.iload_n 2, 1) := dk_28 (dk_at dksX5_number_3 3 rfl rfl)
theorem dX5_number_74 : decode cX5_number 74 = .ok (.ireturn, 1) := dk_172 (dk_at dksX5_number_3 4 rfl rfl)
abbrev cX5_lambda_comparison_0 : ByteArray := prog_5_method_18_code
def yX5_lambda_comparison_0 : MethodName := ⟨RX5, "lambda$comparison$0", "(LIntervalTree$Property;ILIntervalTree$Node;)Z"⟩
def dkwX5_lambda_comparison_0_0 : List UInt8 := [42, 44, 185, 0, 121, 2, 0, 27, 160, 0, 7, 4, 167, 0, 4, 3, 172]
abbrev dktX5_lambda_comparison_0_0 : List UInt8 := dkwX5_lambda_comparison_0_0 ++ []
theorem dksX5_lambda_comparison_0_0 : cX5_lambda_comparison_0.data.toList.drop 0 = dktX5_lambda_comparison_0_0 := by decide +kernel
theorem dX5_lambda_comparison_0_0 : decode cX5_lambda_comparison_0 0 = .ok (.aload_n 0, 1) := dk_42 (dk_at dksX5_lambda_comparison_0_0 0 rfl rfl)
theorem dX5_lambda_comparison_0_1 : decode cX5_lambda_comparison_0 1 = .ok (.aload_n 2, 1) := dk_44 (dk_at dksX5_lambda_comparison_0_0 1 rfl rfl)
theorem dX5_lambda_comparison_0_2 : decode cX5_lambda_comparison_0 2 = .ok (.invokeinterface 121 2, 5) := by decide +kernel
theorem dX5_lambda_comparison_0_7 : decode cX5_lambda_comparison_0 7 = .ok (.iload_n 1, 1) := dk_27 (dk_at dksX5_lambda_comparison_0_0 7 rfl rfl)
theorem dX5_lambda_comparison_0_8 : decode cX5_lambda_comparison_0 8 = .ok (.if_icmp .ne 7, 3) := dk_160 0 7 (dk_at dksX5_lambda_comparison_0_0 8 rfl rfl)
theorem dX5_lambda_comparison_0_11 : decode cX5_lambda_comparison_0 11 = .ok (.iconst 1, 1) := dk_4 (dk_at dksX5_lambda_comparison_0_0 11 rfl rfl)
theorem dX5_lambda_comparison_0_12 : decode cX5_lambda_comparison_0 12 = .ok (.goto 4, 3) := dk_167 0 4 (dk_at dksX5_lambda_comparison_0_0 12 rfl rfl)
theorem dX5_lambda_comparison_0_15 : decode cX5_lambda_comparison_0 15 = .ok (.iconst 0, 1) := dk_3 (dk_at dksX5_lambda_comparison_0_0 15 rfl rfl)
theorem dX5_lambda_comparison_0_16 : decode cX5_lambda_comparison_0 16 = .ok (.ireturn, 1) := dk_172 (dk_at dksX5_lambda_comparison_0_0 16 rfl rfl)
abbrev cX5_below : ByteArray := prog_5_method_14_code
def yX5_below : MethodName := ⟨RX5, "below", "(LIntervalTree$Property;I)LIntervalTree$Filter;"⟩
def dkwX5_below_0 : List UInt8 := [43, 28, 186, 0, 119, 0, 0, 176]
abbrev dktX5_below_0 : List UInt8 := dkwX5_below_0 ++ []
theorem dksX5_below_0 : cX5_below.data.toList.drop 0 = dktX5_below_0 := by decide +kernel
theorem dX5_below_0 : decode cX5_below 0 = .ok (.aload_n 1, 1) := dk_43 (dk_at dksX5_below_0 0 rfl rfl)
theorem dX5_below_1 : decode cX5_below 1 = .ok (.iload_n 2, 1) := dk_28 (dk_at dksX5_below_0 1 rfl rfl)
theorem dX5_below_2 : decode cX5_below 2 = .ok (.invokedynamic 119, 5) := by decide +kernel
theorem dX5_below_7 : decode cX5_below 7 = .ok (.areturn, 1) := dk_176 (dk_at dksX5_below_0 7 rfl rfl)
abbrev cX5_lambda_below_1 : ByteArray := prog_5_method_17_code
def yX5_lambda_below_1 : MethodName := ⟨RX5, "lambda$below$1", "(LIntervalTree$Property;ILIntervalTree$Node;)Z"⟩
def dkwX5_lambda_below_1_0 : List UInt8 := [42, 44, 185, 0, 121, 2, 0, 27, 162, 0, 7, 4, 167, 0, 4, 3, 172]
abbrev dktX5_lambda_below_1_0 : List UInt8 := dkwX5_lambda_below_1_0 ++ []
theorem dksX5_lambda_below_1_0 : cX5_lambda_below_1.data.toList.drop 0 = dktX5_lambda_below_1_0 := by decide +kernel
theorem dX5_lambda_below_1_0 : decode cX5_lambda_below_1 0 = .ok (.aload_n 0, 1) := dk_42 (dk_at dksX5_lambda_below_1_0 0 rfl rfl)
theorem dX5_lambda_below_1_1 : decode cX5_lambda_below_1 1 = .ok (.aload_n 2, 1) := dk_44 (dk_at dksX5_lambda_below_1_0 1 rfl rfl)
theorem dX5_lambda_below_1_2 : decode cX5_lambda_below_1 2 = .ok (.invokeinterface 121 2, 5) := by decide +kernel
theorem dX5_lambda_below_1_7 : decode cX5_lambda_below_1 7 = .ok (.iload_n 1, 1) := dk_27 (dk_at dksX5_lambda_below_1_0 7 rfl rfl)
theorem dX5_lambda_below_1_8 : decode cX5_lambda_below_1 8 = .ok (.if_icmp .ge 7, 3) := dk_162 0 7 (dk_at dksX5_lambda_below_1_0 8 rfl rfl)
theorem dX5_lambda_below_1_11 : decode cX5_lambda_below_1 11 = .ok (.iconst 1, 1) := dk_4 (dk_at dksX5_lambda_below_1_0 11 rfl rfl)
theorem dX5_lambda_below_1_12 : decode cX5_lambda_below_1 12 = .ok (.goto 4, 3) := dk_167 0 4 (dk_at dksX5_lambda_below_1_0 12 rfl rfl)
theorem dX5_lambda_below_1_15 : decode cX5_lambda_below_1 15 = .ok (.iconst 0, 1) := dk_3 (dk_at dksX5_lambda_below_1_0 15 rfl rfl)
theorem dX5_lambda_below_1_16 : decode cX5_lambda_below_1 16 = .ok (.ireturn, 1) := dk_172 (dk_at dksX5_lambda_below_1_0 16 rfl rfl)
abbrev cX5_above : ByteArray := prog_5_method_15_code
def yX5_above : MethodName := ⟨RX5, "above", "(LIntervalTree$Property;I)LIntervalTree$Filter;"⟩
def dkwX5_above_0 : List UInt8 := [43, 28, 186, 0, 120, 0, 0, 176]
abbrev dktX5_above_0 : List UInt8 := dkwX5_above_0 ++ []
theorem dksX5_above_0 : cX5_above.data.toList.drop 0 = dktX5_above_0 := by decide +kernel
theorem dX5_above_0 : decode cX5_above 0 = .ok (.aload_n 1, 1) := dk_43 (dk_at dksX5_above_0 0 rfl rfl)
theorem dX5_above_1 : decode cX5_above 1 = .ok (.iload_n 2, 1) := dk_28 (dk_at dksX5_above_0 1 rfl rfl)
theorem dX5_above_2 : decode cX5_above 2 = .ok (.invokedynamic 120, 5) := by decide +kernel
theorem dX5_above_7 : decode cX5_above 7 = .ok (.areturn, 1) := dk_176 (dk_at dksX5_above_0 7 rfl rfl)
abbrev cX5_lambda_above_2 : ByteArray := prog_5_method_16_code
def yX5_lambda_above_2 : MethodName := ⟨RX5, "lambda$above$2", "(LIntervalTree$Property;ILIntervalTree$Node;)Z"⟩
def dkwX5_lambda_above_2_0 : List UInt8 := [42, 44, 185, 0, 121, 2, 0, 27, 164, 0, 7, 4, 167, 0, 4, 3, 172]
abbrev dktX5_lambda_above_2_0 : List UInt8 := dkwX5_lambda_above_2_0 ++ []
theorem dksX5_lambda_above_2_0 : cX5_lambda_above_2.data.toList.drop 0 = dktX5_lambda_above_2_0 := by decide +kernel
theorem dX5_lambda_above_2_0 : decode cX5_lambda_above_2 0 = .ok (.aload_n 0, 1) := dk_42 (dk_at dksX5_lambda_above_2_0 0 rfl rfl)
theorem dX5_lambda_above_2_1 : decode cX5_lambda_above_2 1 = .ok (.aload_n 2, 1) := dk_44 (dk_at dksX5_lambda_above_2_0 1 rfl rfl)
theorem dX5_lambda_above_2_2 : decode cX5_lambda_above_2 2 = .ok (.invokeinterface 121 2, 5) := by decide +kernel
theorem dX5_lambda_above_2_7 : decode cX5_lambda_above_2 7 = .ok (.iload_n 1, 1) := dk_27 (dk_at dksX5_lambda_above_2_0 7 rfl rfl)
theorem dX5_lambda_above_2_8 : decode cX5_lambda_above_2 8 = .ok (.if_icmp .le 7, 3) := dk_164 0 7 (dk_at dksX5_lambda_above_2_0 8 rfl rfl)
theorem dX5_lambda_above_2_11 : decode cX5_lambda_above_2 11 = .ok (.iconst 1, 1) := dk_4 (dk_at dksX5_lambda_above_2_0 11 rfl rfl)
theorem dX5_lambda_above_2_12 : decode cX5_lambda_above_2 12 = .ok (.goto 4, 3) := dk_167 0 4 (dk_at dksX5_lambda_above_2_0 12 rfl rfl)
theorem dX5_lambda_above_2_15 : decode cX5_lambda_above_2 15 = .ok (.iconst 0, 1) := dk_3 (dk_at dksX5_lambda_above_2_0 15 rfl rfl)
theorem dX5_lambda_above_2_16 : decode cX5_lambda_above_2 16 = .ok (.ireturn, 1) := dk_172 (dk_at dksX5_lambda_above_2_0 16 rfl rfl)
theorem q107 : (Jvm.Cond.initialized "IntervalTree$Parser") ∈ lw_all := lw_g (lw_at lw_m1 15 rfl) rfl
theorem q181 : (Jvm.Cond.fieldLinkNest "IntervalTree$Parser" (86 : Nat) "IntervalTree" "filters" "[LIntervalTree$Filter;" "IntervalTree") ∈ lw_tbl := lw_at lw_m1 89 rfl
theorem q183 : (Jvm.Cond.fieldLinkNest "IntervalTree$Parser" (98 : Nat) "IntervalTree" "properties" "[LIntervalTree$Property;" "IntervalTree") ∈ lw_tbl := lw_at lw_m1 91 rfl
theorem q201 : (Jvm.Cond.fieldLinkNest "IntervalTree$Parser" (22 : Nat) "IntervalTree" "text" "[B" "IntervalTree") ∈ lw_tbl := lw_at lw_m1 109 rfl
theorem q203 : (Jvm.Cond.fieldLinkNest "IntervalTree$Parser" (19 : Nat) "IntervalTree" "textLength" "I" "IntervalTree") ∈ lw_tbl := lw_at lw_m1 111 rfl
theorem q993 : (Jvm.Cond.instantiable "IntervalTree$Parser" (3 : Nat)) ∈ lw_all := lw_g (lw_at lw_m4 181 rfl) rfl
theorem q995 : (Jvm.Cond.instanceMethod ({ cls := "IntervalTree$Parser", name := "<init>", desc := "(LIntervalTree;)V" } : Jvm.MethodName)) ∈ lw_all := lw_g (lw_at lw_m4 183 rfl) rfl
theorem q996 : (Jvm.Cond.code ({ cls := "IntervalTree$Parser", name := "<init>", desc := "(LIntervalTree;)V" } : Jvm.MethodName) prog_5_method_1_code (2 : Nat) (Option.none : Option Jvm.ClassFile.FieldType)) ∈ lw_all := lw_g (lw_at lw_m4 184 rfl) rfl
theorem q997 : (Jvm.Cond.methodLink "IntervalTree$Parser" (9 : Nat) ({ cls := "java/lang/Object", name := "<init>", desc := "()V" } : Jvm.MethodName)) ∈ lw_all := lw_g (lw_at lw_m4 185 rfl) rfl
theorem q998 : (Jvm.Cond.fieldLink "IntervalTree$Parser" (15 : Nat) "IntervalTree$Parser" "at" "I") ∈ lw_all := lw_g (lw_at lw_m4 186 rfl) rfl
theorem q999 : (Jvm.Cond.fieldLink "IntervalTree$Parser" (76 : Nat) "IntervalTree$Parser" "references" "I") ∈ lw_all := lw_g (lw_at lw_m4 187 rfl) rfl
theorem q1000 : (Jvm.Cond.fieldLink "IntervalTree$Parser" (3 : Nat) "IntervalTree$Parser" "this$0" "LIntervalTree;") ∈ lw_all := lw_g (lw_at lw_m4 188 rfl) rfl
theorem q1001 : (Jvm.Cond.lays "IntervalTree$Parser" "IntervalTree$Parser" "at" "I") ∈ lw_all := lw_g (lw_at lw_m4 189 rfl) rfl
theorem q1002 : (Jvm.Cond.soleField "IntervalTree$Parser" "at") ∈ lw_all := lw_g (lw_at lw_m4 190 rfl) rfl
theorem q1003 : (Jvm.Cond.lays "IntervalTree$Parser" "IntervalTree$Parser" "references" "I") ∈ lw_all := lw_g (lw_at lw_m4 191 rfl) rfl
theorem q1004 : (Jvm.Cond.soleField "IntervalTree$Parser" "references") ∈ lw_all := lw_g (lw_at lw_m4 192 rfl) rfl
theorem q1005 : (Jvm.Cond.laysFinal "IntervalTree$Parser" "IntervalTree$Parser" "this$0" "LIntervalTree;") ∈ lw_all := lw_g (lw_at lw_m4 193 rfl) rfl
theorem q1006 : (Jvm.Cond.soleField "IntervalTree$Parser" "this$0") ∈ lw_all := lw_g (lw_at lw_m4 194 rfl) rfl
theorem q1007 : (Jvm.Cond.superclass "IntervalTree$Parser" "java/lang/Object") ∈ lw_all := lw_g (lw_at lw_m4 195 rfl) rfl
theorem q1009 : (Jvm.Cond.instanceMethod ({ cls := "IntervalTree$Parser", name := "whole", desc := "()LIntervalTree$Filter;" } : Jvm.MethodName)) ∈ lw_all := lw_g (lw_at lw_m4 197 rfl) rfl
theorem q1010 : (Jvm.Cond.selects "IntervalTree$Parser" ({ cls := "IntervalTree$Parser", name := "whole", desc := "()LIntervalTree$Filter;" } : Jvm.MethodName) ({ cls := "IntervalTree$Parser", name := "whole", desc := "()LIntervalTree$Filter;" } : Jvm.MethodName)) ∈ lw_all := lw_g (lw_at lw_m4 198 rfl) rfl
theorem q1011 : (Jvm.Cond.code ({ cls := "IntervalTree$Parser", name := "whole", desc := "()LIntervalTree$Filter;" } : Jvm.MethodName) prog_5_method_6_code (2 : Nat) (Option.some (Jvm.ClassFile.FieldType.object "IntervalTree$Filter"))) ∈ lw_all := lw_g (lw_at lw_m4 199 rfl) rfl
theorem q1012 : (Jvm.Cond.methodLink "IntervalTree$Parser" (39 : Nat) ({ cls := "IntervalTree$Parser", name := "filter", desc := "()LIntervalTree$Filter;" } : Jvm.MethodName)) ∈ lw_all := lw_g (lw_at lw_m4 200 rfl) rfl
theorem q1013 : (Jvm.Cond.privateMethod ({ cls := "IntervalTree$Parser", name := "filter", desc := "()LIntervalTree$Filter;" } : Jvm.MethodName)) ∈ lw_tbl := lw_at lw_m4 201 rfl
theorem q1014 : (Jvm.Cond.instanceMethod ({ cls := "IntervalTree$Parser", name := "filter", desc := "()LIntervalTree$Filter;" } : Jvm.MethodName)) ∈ lw_all := lw_g (lw_at lw_m4 202 rfl) rfl
theorem q1015 : (Jvm.Cond.code ({ cls := "IntervalTree$Parser", name := "filter", desc := "()LIntervalTree$Filter;" } : Jvm.MethodName) prog_5_method_7_code (2 : Nat) (Option.some (Jvm.ClassFile.FieldType.object "IntervalTree$Filter"))) ∈ lw_all := lw_g (lw_at lw_m4 203 rfl) rfl
theorem q1016 : (Jvm.Cond.methodLink "IntervalTree$Parser" (47 : Nat) ({ cls := "IntervalTree$Parser", name := "term", desc := "()LIntervalTree$Filter;" } : Jvm.MethodName)) ∈ lw_all := lw_g (lw_at lw_m4 204 rfl) rfl
theorem q1017 : (Jvm.Cond.privateMethod ({ cls := "IntervalTree$Parser", name := "term", desc := "()LIntervalTree$Filter;" } : Jvm.MethodName)) ∈ lw_tbl := lw_at lw_m4 205 rfl
theorem q1018 : (Jvm.Cond.instanceMethod ({ cls := "IntervalTree$Parser", name := "term", desc := "()LIntervalTree$Filter;" } : Jvm.MethodName)) ∈ lw_all := lw_g (lw_at lw_m4 206 rfl) rfl
theorem q1019 : (Jvm.Cond.code ({ cls := "IntervalTree$Parser", name := "term", desc := "()LIntervalTree$Filter;" } : Jvm.MethodName) prog_5_method_8_code (2 : Nat) (Option.some (Jvm.ClassFile.FieldType.object "IntervalTree$Filter"))) ∈ lw_all := lw_g (lw_at lw_m4 207 rfl) rfl
theorem q1020 : (Jvm.Cond.methodLink "IntervalTree$Parser" (60 : Nat) ({ cls := "IntervalTree$Parser", name := "factor", desc := "()LIntervalTree$Filter;" } : Jvm.MethodName)) ∈ lw_all := lw_g (lw_at lw_m4 208 rfl) rfl
theorem q1021 : (Jvm.Cond.privateMethod ({ cls := "IntervalTree$Parser", name := "factor", desc := "()LIntervalTree$Filter;" } : Jvm.MethodName)) ∈ lw_tbl := lw_at lw_m4 209 rfl
theorem q1022 : (Jvm.Cond.instanceMethod ({ cls := "IntervalTree$Parser", name := "factor", desc := "()LIntervalTree$Filter;" } : Jvm.MethodName)) ∈ lw_all := lw_g (lw_at lw_m4 210 rfl) rfl
theorem q1023 : (Jvm.Cond.code ({ cls := "IntervalTree$Parser", name := "factor", desc := "()LIntervalTree$Filter;" } : Jvm.MethodName) prog_5_method_9_code (2 : Nat) (Option.some (Jvm.ClassFile.FieldType.object "IntervalTree$Filter"))) ∈ lw_all := lw_g (lw_at lw_m4 211 rfl) rfl
theorem q1024 : (Jvm.Cond.methodLink "IntervalTree$Parser" (50 : Nat) ({ cls := "IntervalTree$Parser", name := "skip", desc := "(I)Z" } : Jvm.MethodName)) ∈ lw_all := lw_g (lw_at lw_m4 212 rfl) rfl
theorem q1025 : (Jvm.Cond.privateMethod ({ cls := "IntervalTree$Parser", name := "skip", desc := "(I)Z" } : Jvm.MethodName)) ∈ lw_tbl := lw_at lw_m4 213 rfl
theorem q1026 : (Jvm.Cond.instanceMethod ({ cls := "IntervalTree$Parser", name := "skip", desc := "(I)Z" } : Jvm.MethodName)) ∈ lw_all := lw_g (lw_at lw_m4 214 rfl) rfl
theorem q1027 : (Jvm.Cond.code ({ cls := "IntervalTree$Parser", name := "skip", desc := "(I)Z" } : Jvm.MethodName) prog_5_method_3_code (2 : Nat) (Option.some Jvm.ClassFile.FieldType.boolean)) ∈ lw_all := lw_g (lw_at lw_m4 215 rfl) rfl
theorem q1028 : (Jvm.Cond.methodLink "IntervalTree$Parser" (26 : Nat) ({ cls := "IntervalTree$Parser", name := "here", desc := "()I" } : Jvm.MethodName)) ∈ lw_all := lw_g (lw_at lw_m4 216 rfl) rfl
theorem q1029 : (Jvm.Cond.privateMethod ({ cls := "IntervalTree$Parser", name := "here", desc := "()I" } : Jvm.MethodName)) ∈ lw_tbl := lw_at lw_m4 217 rfl
theorem q1030 : (Jvm.Cond.instanceMethod ({ cls := "IntervalTree$Parser", name := "here", desc := "()I" } : Jvm.MethodName)) ∈ lw_all := lw_g (lw_at lw_m4 218 rfl) rfl
theorem q1031 : (Jvm.Cond.code ({ cls := "IntervalTree$Parser", name := "here", desc := "()I" } : Jvm.MethodName) prog_5_method_2_code (1 : Nat) (Option.some Jvm.ClassFile.FieldType.int)) ∈ lw_all := lw_g (lw_at lw_m4 219 rfl) rfl
theorem q1032 : (Jvm.Cond.methodLinkNest "IntervalTree$Parser" (66 : Nat) ({ cls := "IntervalTree", name := "not", desc := "(LIntervalTree$Filter;)LIntervalTree$Filter;" } : Jvm.MethodName) "IntervalTree") ∈ lw_tbl := lw_at lw_m4 220 rfl
theorem q1033 : (Jvm.Cond.methodLink "IntervalTree$Parser" (70 : Nat) ({ cls := "IntervalTree$Parser", name := "reference", desc := "()LIntervalTree$Filter;" } : Jvm.MethodName)) ∈ lw_all := lw_g (lw_at lw_m4 221 rfl) rfl
theorem q1034 : (Jvm.Cond.privateMethod ({ cls := "IntervalTree$Parser", name := "reference", desc := "()LIntervalTree$Filter;" } : Jvm.MethodName)) ∈ lw_tbl := lw_at lw_m4 222 rfl
theorem q1035 : (Jvm.Cond.instanceMethod ({ cls := "IntervalTree$Parser", name := "reference", desc := "()LIntervalTree$Filter;" } : Jvm.MethodName)) ∈ lw_all := lw_g (lw_at lw_m4 223 rfl) rfl
theorem q1036 : (Jvm.Cond.code ({ cls := "IntervalTree$Parser", name := "reference", desc := "()LIntervalTree$Filter;" } : Jvm.MethodName) prog_5_method_10_code (2 : Nat) (Option.some (Jvm.ClassFile.FieldType.object "IntervalTree$Filter"))) ∈ lw_all := lw_g (lw_at lw_m4 224 rfl) rfl
theorem q1037 : (Jvm.Cond.methodLink "IntervalTree$Parser" (43 : Nat) ({ cls := "IntervalTree$Parser", name := "error", desc := "()LIntervalTree$SyntaxError;" } : Jvm.MethodName)) ∈ lw_all := lw_g (lw_at lw_m4 225 rfl) rfl
theorem q1038 : (Jvm.Cond.privateMethod ({ cls := "IntervalTree$Parser", name := "error", desc := "()LIntervalTree$SyntaxError;" } : Jvm.MethodName)) ∈ lw_tbl := lw_at lw_m4 226 rfl
theorem q1039 : (Jvm.Cond.instanceMethod ({ cls := "IntervalTree$Parser", name := "error", desc := "()LIntervalTree$SyntaxError;" } : Jvm.MethodName)) ∈ lw_all := lw_g (lw_at lw_m4 227 rfl) rfl
theorem q1040 : (Jvm.Cond.code ({ cls := "IntervalTree$Parser", name := "error", desc := "()LIntervalTree$SyntaxError;" } : Jvm.MethodName) prog_5_method_4_code (1 : Nat) (Option.some (Jvm.ClassFile.FieldType.object "IntervalTree$SyntaxError"))) ∈ lw_all := lw_g (lw_at lw_m4 228 rfl) rfl
theorem q1041 : (Jvm.Cond.classLink "IntervalTree$Parser" (30 : Nat) "IntervalTree$SyntaxError") ∈ lw_all := lw_g (lw_at lw_m4 229 rfl) rfl
theorem q1050 : (Jvm.Cond.methodLink "IntervalTree$Parser" (32 : Nat) ({ cls := "IntervalTree$SyntaxError", name := "<init>", desc := "(I)V" } : Jvm.MethodName)) ∈ lw_all := lw_g (lw_at lw_m4 238 rfl) rfl
theorem q1061 : (Jvm.Cond.methodLink "IntervalTree$Parser" (79 : Nat) ({ cls := "IntervalTree$Parser", name := "isDigit", desc := "()Z" } : Jvm.MethodName)) ∈ lw_all := lw_g (lw_at lw_m5 9 rfl) rfl
theorem q1062 : (Jvm.Cond.privateMethod ({ cls := "IntervalTree$Parser", name := "isDigit", desc := "()Z" } : Jvm.MethodName)) ∈ lw_tbl := lw_at lw_m5 10 rfl
theorem q1063 : (Jvm.Cond.instanceMethod ({ cls := "IntervalTree$Parser", name := "isDigit", desc := "()Z" } : Jvm.MethodName)) ∈ lw_all := lw_g (lw_at lw_m5 11 rfl) rfl
theorem q1064 : (Jvm.Cond.code ({ cls := "IntervalTree$Parser", name := "isDigit", desc := "()Z" } : Jvm.MethodName) prog_5_method_5_code (1 : Nat) (Option.some Jvm.ClassFile.FieldType.boolean)) ∈ lw_all := lw_g (lw_at lw_m5 12 rfl) rfl
theorem q1065 : (Jvm.Cond.methodLinkNest "IntervalTree$Parser" (35 : Nat) ({ cls := "IntervalTree", name := "isBetween", desc := "(III)Z" } : Jvm.MethodName) "IntervalTree") ∈ lw_tbl := lw_at lw_m5 13 rfl
theorem q1066 : (Jvm.Cond.methodLinkNest "IntervalTree$Parser" (83 : Nat) ({ cls := "IntervalTree", name := "isFilter", desc := "(I)Z" } : Jvm.MethodName) "IntervalTree") ∈ lw_tbl := lw_at lw_m5 14 rfl
theorem q1067 : (Jvm.Cond.methodLink "IntervalTree$Parser" (73 : Nat) ({ cls := "IntervalTree$Parser", name := "comparison", desc := "()LIntervalTree$Filter;" } : Jvm.MethodName)) ∈ lw_all := lw_g (lw_at lw_m5 15 rfl) rfl
theorem q1068 : (Jvm.Cond.privateMethod ({ cls := "IntervalTree$Parser", name := "comparison", desc := "()LIntervalTree$Filter;" } : Jvm.MethodName)) ∈ lw_tbl := lw_at lw_m5 16 rfl
theorem q1069 : (Jvm.Cond.instanceMethod ({ cls := "IntervalTree$Parser", name := "comparison", desc := "()LIntervalTree$Filter;" } : Jvm.MethodName)) ∈ lw_all := lw_g (lw_at lw_m5 17 rfl) rfl
theorem q1070 : (Jvm.Cond.code ({ cls := "IntervalTree$Parser", name := "comparison", desc := "()LIntervalTree$Filter;" } : Jvm.MethodName) prog_5_method_13_code (4 : Nat) (Option.some (Jvm.ClassFile.FieldType.object "IntervalTree$Filter"))) ∈ lw_all := lw_g (lw_at lw_m5 18 rfl) rfl
theorem q1071 : (Jvm.Cond.methodLink "IntervalTree$Parser" (102 : Nat) ({ cls := "IntervalTree$Parser", name := "property", desc := "()LIntervalTree$Property;" } : Jvm.MethodName)) ∈ lw_all := lw_g (lw_at lw_m5 19 rfl) rfl
theorem q1072 : (Jvm.Cond.privateMethod ({ cls := "IntervalTree$Parser", name := "property", desc := "()LIntervalTree$Property;" } : Jvm.MethodName)) ∈ lw_tbl := lw_at lw_m5 20 rfl
theorem q1073 : (Jvm.Cond.instanceMethod ({ cls := "IntervalTree$Parser", name := "property", desc := "()LIntervalTree$Property;" } : Jvm.MethodName)) ∈ lw_all := lw_g (lw_at lw_m5 21 rfl) rfl
theorem q1074 : (Jvm.Cond.code ({ cls := "IntervalTree$Parser", name := "property", desc := "()LIntervalTree$Property;" } : Jvm.MethodName) prog_5_method_11_code (2 : Nat) (Option.some (Jvm.ClassFile.FieldType.object "IntervalTree$Property"))) ∈ lw_all := lw_g (lw_at lw_m5 22 rfl) rfl
theorem q1075 : (Jvm.Cond.stringRef "IntervalTree$Parser" (90 : Nat) "lhwn") ∈ lw_tbl := lw_at lw_m5 23 rfl
theorem q1076 : (Jvm.Cond.methodLink "IntervalTree$Parser" (92 : Nat) ({ cls := "java/lang/String", name := "indexOf", desc := "(I)I" } : Jvm.MethodName)) ∈ lw_all := lw_g (lw_at lw_m5 24 rfl) rfl
theorem q1158 : (Jvm.Cond.methodLink "IntervalTree$Parser" (106 : Nat) ({ cls := "IntervalTree$Parser", name := "number", desc := "()I" } : Jvm.MethodName)) ∈ lw_all := lw_g (lw_at lw_m5 106 rfl) rfl
theorem q1159 : (Jvm.Cond.privateMethod ({ cls := "IntervalTree$Parser", name := "number", desc := "()I" } : Jvm.MethodName)) ∈ lw_tbl := lw_at lw_m5 107 rfl
theorem q1160 : (Jvm.Cond.instanceMethod ({ cls := "IntervalTree$Parser", name := "number", desc := "()I" } : Jvm.MethodName)) ∈ lw_all := lw_g (lw_at lw_m5 108 rfl) rfl
theorem q1161 : (Jvm.Cond.code ({ cls := "IntervalTree$Parser", name := "number", desc := "()I" } : Jvm.MethodName) prog_5_method_12_code (4 : Nat) (Option.some Jvm.ClassFile.FieldType.int)) ∈ lw_all := lw_g (lw_at lw_m5 109 rfl) rfl
theorem q1162 : (Jvm.Cond.static ({ cls := "IntervalTree$Parser", name := "lambda$comparison$0", desc := "(LIntervalTree$Property;ILIntervalTree$Node;)Z" } : Jvm.MethodName)) ∈ lw_all := lw_g (lw_at lw_m5 110 rfl) rfl
theorem q1163 : (Jvm.Cond.code ({ cls := "IntervalTree$Parser", name := "lambda$comparison$0", desc := "(LIntervalTree$Property;ILIntervalTree$Node;)Z" } : Jvm.MethodName) prog_5_method_18_code (3 : Nat) (Option.some Jvm.ClassFile.FieldType.boolean)) ∈ lw_all := lw_g (lw_at lw_m5 111 rfl) rfl
theorem q1164 : (Jvm.Cond.interfaceEntry "IntervalTree$Parser" (121 : Nat)) ∈ lw_tbl := lw_at lw_m5 112 rfl
theorem q1165 : (Jvm.Cond.methodLink "IntervalTree$Parser" (121 : Nat) ({ cls := "IntervalTree$Property", name := "of", desc := "(LIntervalTree$Node;)I" } : Jvm.MethodName)) ∈ lw_all := lw_g (lw_at lw_m5 113 rfl) rfl
theorem q1166 : (Jvm.Cond.methodLink "IntervalTree$Parser" (113 : Nat) ({ cls := "IntervalTree$Parser", name := "below", desc := "(LIntervalTree$Property;I)LIntervalTree$Filter;" } : Jvm.MethodName)) ∈ lw_all := lw_g (lw_at lw_m5 114 rfl) rfl
theorem q1167 : (Jvm.Cond.privateMethod ({ cls := "IntervalTree$Parser", name := "below", desc := "(LIntervalTree$Property;I)LIntervalTree$Filter;" } : Jvm.MethodName)) ∈ lw_tbl := lw_at lw_m5 115 rfl
theorem q1168 : (Jvm.Cond.instanceMethod ({ cls := "IntervalTree$Parser", name := "below", desc := "(LIntervalTree$Property;I)LIntervalTree$Filter;" } : Jvm.MethodName)) ∈ lw_all := lw_g (lw_at lw_m5 116 rfl) rfl
theorem q1169 : (Jvm.Cond.code ({ cls := "IntervalTree$Parser", name := "below", desc := "(LIntervalTree$Property;I)LIntervalTree$Filter;" } : Jvm.MethodName) prog_5_method_14_code (3 : Nat) (Option.some (Jvm.ClassFile.FieldType.object "IntervalTree$Filter"))) ∈ lw_all := lw_g (lw_at lw_m5 117 rfl) rfl
theorem q1170 : (Jvm.Cond.static ({ cls := "IntervalTree$Parser", name := "lambda$below$1", desc := "(LIntervalTree$Property;ILIntervalTree$Node;)Z" } : Jvm.MethodName)) ∈ lw_all := lw_g (lw_at lw_m5 118 rfl) rfl
theorem q1171 : (Jvm.Cond.code ({ cls := "IntervalTree$Parser", name := "lambda$below$1", desc := "(LIntervalTree$Property;ILIntervalTree$Node;)Z" } : Jvm.MethodName) prog_5_method_17_code (3 : Nat) (Option.some Jvm.ClassFile.FieldType.boolean)) ∈ lw_all := lw_g (lw_at lw_m5 119 rfl) rfl
theorem q1172 : (Jvm.Cond.methodLink "IntervalTree$Parser" (116 : Nat) ({ cls := "IntervalTree$Parser", name := "above", desc := "(LIntervalTree$Property;I)LIntervalTree$Filter;" } : Jvm.MethodName)) ∈ lw_all := lw_g (lw_at lw_m5 120 rfl) rfl
theorem q1173 : (Jvm.Cond.privateMethod ({ cls := "IntervalTree$Parser", name := "above", desc := "(LIntervalTree$Property;I)LIntervalTree$Filter;" } : Jvm.MethodName)) ∈ lw_tbl := lw_at lw_m5 121 rfl
theorem q1174 : (Jvm.Cond.instanceMethod ({ cls := "IntervalTree$Parser", name := "above", desc := "(LIntervalTree$Property;I)LIntervalTree$Filter;" } : Jvm.MethodName)) ∈ lw_all := lw_g (lw_at lw_m5 122 rfl) rfl
theorem q1175 : (Jvm.Cond.code ({ cls := "IntervalTree$Parser", name := "above", desc := "(LIntervalTree$Property;I)LIntervalTree$Filter;" } : Jvm.MethodName) prog_5_method_15_code (3 : Nat) (Option.some (Jvm.ClassFile.FieldType.object "IntervalTree$Filter"))) ∈ lw_all := lw_g (lw_at lw_m5 123 rfl) rfl
theorem q1176 : (Jvm.Cond.static ({ cls := "IntervalTree$Parser", name := "lambda$above$2", desc := "(LIntervalTree$Property;ILIntervalTree$Node;)Z" } : Jvm.MethodName)) ∈ lw_all := lw_g (lw_at lw_m5 124 rfl) rfl
theorem q1177 : (Jvm.Cond.code ({ cls := "IntervalTree$Parser", name := "lambda$above$2", desc := "(LIntervalTree$Property;ILIntervalTree$Node;)Z" } : Jvm.MethodName) prog_5_method_16_code (3 : Nat) (Option.some Jvm.ClassFile.FieldType.boolean)) ∈ lw_all := lw_g (lw_at lw_m5 125 rfl) rfl
theorem q1178 : (Jvm.Cond.classLink "IntervalTree$Parser" (54 : Nat) "IntervalTree$Filter") ∈ lw_all := lw_g (lw_at lw_m5 126 rfl) rfl
theorem q1179 : (Jvm.Cond.methodLinkNest "IntervalTree$Parser" (63 : Nat) ({ cls := "IntervalTree", name := "all", desc := "([LIntervalTree$Filter;)LIntervalTree$Filter;" } : Jvm.MethodName) "IntervalTree") ∈ lw_tbl := lw_at lw_m5 127 rfl
theorem q1180 : (Jvm.Cond.methodLinkNest "IntervalTree$Parser" (56 : Nat) ({ cls := "IntervalTree", name := "any", desc := "([LIntervalTree$Filter;)LIntervalTree$Filter;" } : Jvm.MethodName) "IntervalTree") ∈ lw_tbl := lw_at lw_m5 128 rfl
theorem q1803 : (Jvm.Cond.castable "IntervalTree$Parser" "java/lang/Object") ∈ lw_tbl := lw_at lw_m8 31 rfl
theorem in_X5 : ∀ w ∈ wsX50, w ∈ lw_all := lw_in wsX50 [1001, 1003, 1005] (by decide +kernel) (by decide +kernel)
