/-! MatchmakerRules -/
set_option maxRecDepth 100000
def RX1 : String := "MatchmakerRules"
def TX1 : u_T := fun k => match k with
  | 0 => ("MatchmakerRules", "book", "LMatchmakerRules$Book;", false)
  | 1 => ("MatchmakerRules", "undoSteps", "Ljava/util/ArrayDeque;", true)
  | 2 => ("MatchmakerRules", "saved", "LMatchmakerRules$Book;", false)
  | 3 => ("MatchmakerRules", "rows", "[Ljava/lang/Object;", true)
  | 4 => ("MatchmakerRules", "input", "Ljava/lang/StringBuilder;", false)
  | 5 => ("MatchmakerRules", "line", "Ljava/lang/String;", false)
  | 6 => ("MatchmakerRules", "lastError", "LMatchmakerRules$SyntaxException;", false)
  | 7 => ("MatchmakerRules", "lastItem", "I", false)
  | _ => ("MatchmakerRules", "lastRefusal", "LMatchmakerRules$Refused;", false)
def tyX1 : Nat → FieldType := fun k => match k with
  | 0 => .object "MatchmakerRules$Book"
  | 1 => .object "java/util/ArrayDeque"
  | 2 => .object "MatchmakerRules$Book"
  | 3 => .array (.object "java/lang/Object")
  | 4 => .object "java/lang/StringBuilder"
  | 5 => .object "java/lang/String"
  | 6 => .object "MatchmakerRules$SyntaxException"
  | 7 => .int
  | _ => .object "MatchmakerRules$Refused"
abbrev wsX10 : List Cond := u_ws RX1 TX1 9
theorem nmX1 : ∀ a, a < 9 → ∀ b, b < 9 → a ≠ b → (TX1 a).2.1 ≠ (TX1 b).2.1 := by decide +kernel
theorem tyX1_ok : ∀ k, k < 9 → parseFieldDescriptor (TX1 k).2.2.1 = some (tyX1 k) := by decide +kernel
abbrev cX1_init : ByteArray := prog_1_method_9_code
def yX1_init : MethodName := ⟨RX1, "<init>", "()V"⟩
def dkwX1_init_2 : List UInt8 := [18, 76, 181, 0, 78, 42, 2, 181, 0, 82, 177]
abbrev dktX1_init_2 : List UInt8 := dkwX1_init_2 ++ []
def dkwX1_init_1 : List UInt8 := [181, 0, 61, 42, 5, 189, 0, 47, 181, 0, 65, 42, 187, 0, 69, 89, 183, 0, 71, 181, 0, 72, 42]
abbrev dktX1_init_1 : List UInt8 := dkwX1_init_1 ++ dktX1_init_2
def dkwX1_init_0 : List UInt8 := [42, 183, 0, 46, 42, 187, 0, 49, 89, 183, 0, 51, 181, 0, 52, 42, 187, 0, 58, 89, 183, 0, 60]
abbrev dktX1_init_0 : List UInt8 := dkwX1_init_0 ++ dktX1_init_1
theorem dksX1_init_0 : cX1_init.data.toList.drop 0 = dktX1_init_0 := by decide +kernel
theorem dksX1_init_1 : cX1_init.data.toList.drop 23 = dktX1_init_1 := dk_seg dksX1_init_0 23 rfl rfl
theorem dksX1_init_2 : cX1_init.data.toList.drop 46 = dktX1_init_2 := dk_seg dksX1_init_1 23 rfl rfl
theorem dX1_init_0 : decode cX1_init 0 = .ok (.aload_n 0, 1) := dk_42 (dk_at dksX1_init_0 0 rfl rfl)
theorem dX1_init_1 : decode cX1_init 1 = .ok (.invokespecial 46, 3) := dk_183 0 46 (dk_at dksX1_init_0 1 rfl rfl)
theorem dX1_init_4 : decode cX1_init 4 = .ok (.aload_n 0, 1) := dk_42 (dk_at dksX1_init_0 4 rfl rfl)
theorem dX1_init_5 : decode cX1_init 5 = .ok (.new 49, 3) := dk_187 0 49 (dk_at dksX1_init_0 5 rfl rfl)
theorem dX1_init_8 : decode cX1_init 8 = .ok (.dup, 1) := dk_89 (dk_at dksX1_init_0 8 rfl rfl)
theorem dX1_init_9 : decode cX1_init 9 = .ok (.invokespecial 51, 3) := dk_183 0 51 (dk_at dksX1_init_0 9 rfl rfl)
theorem dX1_init_12 : decode cX1_init 12 = .ok (.putfield 52, 3) := dk_181 0 52 (dk_at dksX1_init_0 12 rfl rfl)
theorem dX1_init_15 : decode cX1_init 15 = .ok (.aload_n 0, 1) := dk_42 (dk_at dksX1_init_0 15 rfl rfl)
theorem dX1_init_16 : decode cX1_init 16 = .ok (.new 58, 3) := dk_187 0 58 (dk_at dksX1_init_0 16 rfl rfl)
theorem dX1_init_19 : decode cX1_init 19 = .ok (.dup, 1) := dk_89 (dk_at dksX1_init_0 19 rfl rfl)
theorem dX1_init_20 : decode cX1_init 20 = .ok (.invokespecial 60, 3) := dk_183 0 60 (dk_at dksX1_init_0 20 rfl rfl)
theorem dX1_init_23 : decode cX1_init 23 = .ok (.putfield 61, 3) := dk_181 0 61 (dk_at dksX1_init_1 0 rfl rfl)
theorem dX1_init_26 : decode cX1_init 26 = .ok (.aload_n 0, 1) := dk_42 (dk_at dksX1_init_1 3 rfl rfl)
theorem dX1_init_27 : decode cX1_init 27 = .ok (.iconst 2, 1) := dk_5 (dk_at dksX1_init_1 4 rfl rfl)
theorem dX1_init_28 : decode cX1_init 28 = .ok (.anewarray 47, 3) := dk_189 0 47 (dk_at dksX1_init_1 5 rfl rfl)
theorem dX1_init_31 : decode cX1_init 31 = .ok (.putfield 65, 3) := dk_181 0 65 (dk_at dksX1_init_1 8 rfl rfl)
theorem dX1_init_34 : decode cX1_init 34 = .ok (.aload_n 0, 1) := dk_42 (dk_at dksX1_init_1 11 rfl rfl)
theorem dX1_init_35 : decode cX1_init 35 = .ok (.new 69, 3) := dk_187 0 69 (dk_at dksX1_init_1 12 rfl rfl)
theorem dX1_init_38 : decode cX1_init 38 = .ok (.dup, 1) := dk_89 (dk_at dksX1_init_1 15 rfl rfl)
theorem dX1_init_39 : decode cX1_init 39 = .ok (.invokespecial 71, 3) := dk_183 0 71 (dk_at dksX1_init_1 16 rfl rfl)
theorem dX1_init_42 : decode cX1_init 42 = .ok (.putfield 72, 3) := dk_181 0 72 (dk_at dksX1_init_1 19 rfl rfl)
theorem dX1_init_45 : decode cX1_init 45 = .ok (.aload_n 0, 1) := dk_42 (dk_at dksX1_init_1 22 rfl rfl)
theorem dX1_init_46 : decode cX1_init 46 = .ok (.ldc 76, 2) := dk_18 76 (dk_at dksX1_init_2 0 rfl rfl)
theorem dX1_init_48 : decode cX1_init 48 = .ok (.putfield 78, 3) := dk_181 0 78 (dk_at dksX1_init_2 2 rfl rfl)
theorem dX1_init_51 : decode cX1_init 51 = .ok (.aload_n 0, 1) := dk_42 (dk_at dksX1_init_2 5 rfl rfl)
theorem dX1_init_52 : decode cX1_init 52 = .ok (.iconst (-1), 1) := dk_2 (dk_at dksX1_init_2 6 rfl rfl)
theorem dX1_init_53 : decode cX1_init 53 = .ok (.putfield 82, 3) := dk_181 0 82 (dk_at dksX1_init_2 7 rfl rfl)
theorem dX1_init_56 : decode cX1_init 56 = .ok (.return_, 1) := dk_177 (dk_at dksX1_init_2 10 rfl rfl)
abbrev cX1_clear : ByteArray := prog_1_method_13_code
def yX1_clear : MethodName := ⟨RX1, "clear", "()I"⟩
def dkwX1_clear_1 : List UInt8 := [180, 0, 61, 182, 0, 130, 27, 172]
abbrev dktX1_clear_1 : List UInt8 := dkwX1_clear_1 ++ []
def dkwX1_clear_0 : List UInt8 := [42, 180, 0, 52, 180, 0, 125, 182, 0, 129, 60, 42, 187, 0, 49, 89, 183, 0, 51, 181, 0, 52, 42]
abbrev dktX1_clear_0 : List UInt8 := dkwX1_clear_0 ++ dktX1_clear_1
theorem dksX1_clear_0 : cX1_clear.data.toList.drop 0 = dktX1_clear_0 := by decide +kernel
theorem dksX1_clear_1 : cX1_clear.data.toList.drop 23 = dktX1_clear_1 := dk_seg dksX1_clear_0 23 rfl rfl
theorem dX1_clear_0 : decode cX1_clear 0 = .ok (.aload_n 0, 1) := dk_42 (dk_at dksX1_clear_0 0 rfl rfl)
theorem dX1_clear_1 : decode cX1_clear 1 = .ok (.getfield 52, 3) := dk_180 0 52 (dk_at dksX1_clear_0 1 rfl rfl)
theorem dX1_clear_4 : decode cX1_clear 4 = .ok (.getfield 125, 3) := dk_180 0 125 (dk_at dksX1_clear_0 4 rfl rfl)
theorem dX1_clear_7 : decode cX1_clear 7 = .ok (.invokevirtual 129, 3) := dk_182 0 129 (dk_at dksX1_clear_0 7 rfl rfl)
theorem dX1_clear_10 : decode cX1_clear 10 = .ok (.istore_n 1, 1) := dk_60 (dk_at dksX1_clear_0 10 rfl rfl)
theorem dX1_clear_11 : decode cX1_clear 11 = .ok (.aload_n 0, 1) := dk_42 (dk_at dksX1_clear_0 11 rfl rfl)
theorem dX1_clear_12 : decode cX1_clear 12 = .ok (.new 49, 3) := dk_187 0 49 (dk_at dksX1_clear_0 12 rfl rfl)
theorem dX1_clear_15 : decode cX1_clear 15 = .ok (.dup, 1) := dk_89 (dk_at dksX1_clear_0 15 rfl rfl)
theorem dX1_clear_16 : decode cX1_clear 16 = .ok (.invokespecial 51, 3) := dk_183 0 51 (dk_at dksX1_clear_0 16 rfl rfl)
theorem dX1_clear_19 : decode cX1_clear 19 = .ok (.putfield 52, 3) := dk_181 0 52 (dk_at dksX1_clear_0 19 rfl rfl)
theorem dX1_clear_22 : decode cX1_clear 22 = .ok (.aload_n 0, 1) := dk_42 (dk_at dksX1_clear_0 22 rfl rfl)
theorem dX1_clear_23 : decode cX1_clear 23 = .ok (.getfield 61, 3) := dk_180 0 61 (dk_at dksX1_clear_1 0 rfl rfl)
theorem dX1_clear_26 : decode cX1_clear 26 = .ok (.invokevirtual 130, 3) := dk_182 0 130 (dk_at dksX1_clear_1 3 rfl rfl)
theorem dX1_clear_29 : decode cX1_clear 29 = .ok (.iload_n 1, 1) := dk_27 (dk_at dksX1_clear_1 6 rfl rfl)
theorem dX1_clear_30 : decode cX1_clear 30 = .ok (.ireturn, 1) := dk_172 (dk_at dksX1_clear_1 7 rfl rfl)
abbrev cX1_due : ByteArray := prog_1_method_26_code
def yX1_due : MethodName := ⟨RX1, "due", "(Z)I"⟩
def dkwX1_due_0 : List UInt8 := [27, 153, 0, 13, 42, 180, 0, 52, 182, 0, 228, 167, 0, 10, 42, 180, 0, 52, 182, 0, 231, 172]
abbrev dktX1_due_0 : List UInt8 := dkwX1_due_0 ++ []
theorem dksX1_due_0 : cX1_due.data.toList.drop 0 = dktX1_due_0 := by decide +kernel
theorem dX1_due_0 : decode cX1_due 0 = .ok (.iload_n 1, 1) := dk_27 (dk_at dksX1_due_0 0 rfl rfl)
theorem dX1_due_1 : decode cX1_due 1 = .ok (.ifCond .eq 13, 3) := dk_153 0 13 (dk_at dksX1_due_0 1 rfl rfl)
theorem dX1_due_4 : decode cX1_due 4 = .ok (.aload_n 0, 1) := dk_42 (dk_at dksX1_due_0 4 rfl rfl)
theorem dX1_due_5 : decode cX1_due 5 = .ok (.getfield 52, 3) := dk_180 0 52 (dk_at dksX1_due_0 5 rfl rfl)
theorem dX1_due_8 : decode cX1_due 8 = .ok (.invokevirtual 228, 3) := dk_182 0 228 (dk_at dksX1_due_0 8 rfl rfl)
theorem dX1_due_11 : decode cX1_due 11 = .ok (.goto 10, 3) := dk_167 0 10 (dk_at dksX1_due_0 11 rfl rfl)
theorem dX1_due_14 : decode cX1_due 14 = .ok (.aload_n 0, 1) := dk_42 (dk_at dksX1_due_0 14 rfl rfl)
theorem dX1_due_15 : decode cX1_due 15 = .ok (.getfield 52, 3) := dk_180 0 52 (dk_at dksX1_due_0 15 rfl rfl)
theorem dX1_due_18 : decode cX1_due 18 = .ok (.invokevirtual 231, 3) := dk_182 0 231 (dk_at dksX1_due_0 18 rfl rfl)
theorem dX1_due_21 : decode cX1_due 21 = .ok (.ireturn, 1) := dk_172 (dk_at dksX1_due_0 21 rfl rfl)
abbrev cX1_isInOrder : ByteArray := prog_1_method_34_code
def yX1_isInOrder : MethodName := ⟨RX1, "isInOrder", "()Z"⟩
def dkwX1_isInOrder_0 : List UInt8 := [42, 180, 0, 52, 182, 1, 1, 172]
abbrev dktX1_isInOrder_0 : List UInt8 := dkwX1_isInOrder_0 ++ []
theorem dksX1_isInOrder_0 : cX1_isInOrder.data.toList.drop 0 = dktX1_isInOrder_0 := by decide +kernel
theorem dX1_isInOrder_0 : decode cX1_isInOrder 0 = .ok (.aload_n 0, 1) := dk_42 (dk_at dksX1_isInOrder_0 0 rfl rfl)
theorem dX1_isInOrder_1 : decode cX1_isInOrder 1 = .ok (.getfield 52, 3) := dk_180 0 52 (dk_at dksX1_isInOrder_0 1 rfl rfl)
theorem dX1_isInOrder_4 : decode cX1_isInOrder 4 = .ok (.invokevirtual 257, 3) := dk_182 1 1 (dk_at dksX1_isInOrder_0 4 rfl rfl)
theorem dX1_isInOrder_7 : decode cX1_isInOrder 7 = .ok (.ireturn, 1) := dk_172 (dk_at dksX1_isInOrder_0 7 rfl rfl)
abbrev cX1_count : ByteArray := prog_1_method_7_code
def yX1_count : MethodName := ⟨RX1, "count", "(Ljava/util/ArrayList;LMatchmakerRules$Test;)I"⟩
def dkwX1_count_2 : List UInt8 := [167, 255, 217, 28, 172]
abbrev dktX1_count_2 : List UInt8 := dkwX1_count_2 ++ []
def dkwX1_count_1 : List UInt8 := [192, 0, 35, 58, 4, 28, 43, 25, 4, 185, 0, 37, 2, 0, 153, 0, 7, 4, 167, 0, 4, 3, 96, 61]
abbrev dktX1_count_1 : List UInt8 := dkwX1_count_1 ++ dktX1_count_2
def dkwX1_count_0 : List UInt8 := [3, 61, 42, 182, 0, 19, 78, 45, 185, 0, 25, 1, 0, 153, 0, 36, 45, 185, 0, 31, 1, 0]
abbrev dktX1_count_0 : List UInt8 := dkwX1_count_0 ++ dktX1_count_1
theorem dksX1_count_0 : cX1_count.data.toList.drop 0 = dktX1_count_0 := by decide +kernel
theorem dksX1_count_1 : cX1_count.data.toList.drop 22 = dktX1_count_1 := dk_seg dksX1_count_0 22 rfl rfl
theorem dksX1_count_2 : cX1_count.data.toList.drop 46 = dktX1_count_2 := dk_seg dksX1_count_1 24 rfl rfl
theorem dX1_count_0 : decode cX1_count 0 = .ok (.iconst 0, 1) := dk_3 (dk_at dksX1_count_0 0 rfl rfl)
theorem dX1_count_1 : decode cX1_count 1 = .ok (.istore_n 2, 1) := dk_61 (dk_at dksX1_count_0 1 rfl rfl)
theorem dX1_count_2 : decode cX1_count 2 = .ok (.aload_n 0, 1) := dk_42 (dk_at dksX1_count_0 2 rfl rfl)
theorem dX1_count_3 : decode cX1_count 3 = .ok (.invokevirtual 19, 3) := dk_182 0 19 (dk_at dksX1_count_0 3 rfl rfl)
theorem dX1_count_6 : decode cX1_count 6 = .ok (.astore_n 3, 1) := dk_78 (dk_at dksX1_count_0 6 rfl rfl)
theorem dX1_count_7 : decode cX1_count 7 = .ok (.aload_n 3, 1) := dk_45 (dk_at dksX1_count_0 7 rfl rfl)
theorem dX1_count_8 : decode cX1_count 8 = .ok (.invokeinterface 25 1, 5) := by decide +kernel
theorem dX1_count_13 : decode cX1_count 13 = .ok (.ifCond .eq 36, 3) := dk_153 0 36 (dk_at dksX1_count_0 13 rfl rfl)
theorem dX1_count_16 : decode cX1_count 16 = .ok (.aload_n 3, 1) := dk_45 (dk_at dksX1_count_0 16 rfl rfl)
theorem dX1_count_17 : decode cX1_count 17 = .ok (.invokeinterface 31 1, 5) := by decide +kernel
theorem dX1_count_22 : decode cX1_count 22 = .ok (.checkcast 35, 3) := dk_192 0 35 (dk_at dksX1_count_1 0 rfl rfl)
theorem dX1_count_25 : decode cX1_count 25 = .ok (.astore 4, 2) := dk_58 4 (dk_at dksX1_count_1 3 rfl rfl)
theorem dX1_count_27 : decode cX1_count 27 = .ok (.iload_n 2, 1) := dk_28 (dk_at dksX1_count_1 5 rfl rfl)
theorem dX1_count_28 : decode cX1_count 28 = .ok (.aload_n 1, 1) := dk_43 (dk_at dksX1_count_1 6 rfl rfl)
theorem dX1_count_29 : decode cX1_count 29 = .ok (.aload 4, 2) := dk_25 4 (dk_at dksX1_count_1 7 rfl rfl)
theorem dX1_count_31 : decode cX1_count 31 = .ok (.invokeinterface 37 2, 5) := by decide +kernel
theorem dX1_count_36 : decode cX1_count 36 = .ok (.ifCond .eq 7, 3) := dk_153 0 7 (dk_at dksX1_count_1 14 rfl rfl)
theorem dX1_count_39 : decode cX1_count 39 = .ok (.iconst 1, 1) := dk_4 (dk_at dksX1_count_1 17 rfl rfl)
theorem dX1_count_40 : decode cX1_count 40 = .ok (.goto 4, 3) := dk_167 0 4 (dk_at dksX1_count_1 18 rfl rfl)
theorem dX1_count_43 : decode cX1_count 43 = .ok (.iconst 0, 1) := dk_3 (dk_at dksX1_count_1 21 rfl rfl)
theorem dX1_count_44 : decode cX1_count 44 = .ok (.iadd, 1) := dk_96 (dk_at dksX1_count_1 22 rfl rfl)
theorem dX1_count_45 : decode cX1_count 45 = .ok (.istore_n 2, 1) := dk_61 (dk_at dksX1_count_1 23 rfl rfl)
theorem dX1_count_46 : decode cX1_count 46 = .ok (.goto (-39), 3) := dk_167 255 217 (dk_at dksX1_count_2 0 rfl rfl)
theorem dX1_count_49 : decode cX1_count 49 = .ok (.iload_n 2, 1) := dk_28 (dk_at dksX1_count_2 3 rfl rfl)
theorem dX1_count_50 : decode cX1_count 50 = .ok (.ireturn, 1) := dk_172 (dk_at dksX1_count_2 4 rfl rfl)
abbrev cX1_snapshot : ByteArray := prog_1_method_54_code
def yX1_snapshot : MethodName := ⟨RX1, "snapshot", "()I"⟩
def dkwX1_snapshot_0 : List UInt8 := [42, 42, 180, 0, 52, 181, 1, 119, 42, 180, 0, 52, 180, 0, 125, 182, 0, 129, 172]
abbrev dktX1_snapshot_0 : List UInt8 := dkwX1_snapshot_0 ++ []
theorem dksX1_snapshot_0 : cX1_snapshot.data.toList.drop 0 = dktX1_snapshot_0 := by decide +kernel
theorem dX1_snapshot_0 : decode cX1_snapshot 0 = .ok (.aload_n 0, 1) := dk_42 (dk_at dksX1_snapshot_0 0 rfl rfl)
theorem dX1_snapshot_1 : decode cX1_snapshot 1 = .ok (.aload_n 0, 1) := dk_42 (dk_at dksX1_snapshot_0 1 rfl rfl)
theorem dX1_snapshot_2 : decode cX1_snapshot 2 = .ok (.getfield 52, 3) := dk_180 0 52 (dk_at dksX1_snapshot_0 2 rfl rfl)
theorem dX1_snapshot_5 : decode cX1_snapshot 5 = .ok (.putfield 375, 3) := dk_181 1 119 (dk_at dksX1_snapshot_0 5 rfl rfl)
theorem dX1_snapshot_8 : decode cX1_snapshot 8 = .ok (.aload_n 0, 1) := dk_42 (dk_at dksX1_snapshot_0 8 rfl rfl)
theorem dX1_snapshot_9 : decode cX1_snapshot 9 = .ok (.getfield 52, 3) := dk_180 0 52 (dk_at dksX1_snapshot_0 9 rfl rfl)
theorem dX1_snapshot_12 : decode cX1_snapshot 12 = .ok (.getfield 125, 3) := dk_180 0 125 (dk_at dksX1_snapshot_0 12 rfl rfl)
theorem dX1_snapshot_15 : decode cX1_snapshot 15 = .ok (.invokevirtual 129, 3) := dk_182 0 129 (dk_at dksX1_snapshot_0 15 rfl rfl)
theorem dX1_snapshot_18 : decode cX1_snapshot 18 = .ok (.ireturn, 1) := dk_172 (dk_at dksX1_snapshot_0 18 rfl rfl)
abbrev cX1_rule : ByteArray := prog_1_method_15_code
def yX1_rule : MethodName := ⟨RX1, "rule", "()I"⟩
def dkwX1_rule_0 : List UInt8 := [42, 187, 0, 102, 89, 42, 182, 0, 147, 183, 0, 150, 182, 0, 153, 172]
abbrev dktX1_rule_0 : List UInt8 := dkwX1_rule_0 ++ []
theorem dksX1_rule_0 : cX1_rule.data.toList.drop 0 = dktX1_rule_0 := by decide +kernel
theorem dX1_rule_0 : decode cX1_rule 0 = .ok (.aload_n 0, 1) := dk_42 (dk_at dksX1_rule_0 0 rfl rfl)
theorem dX1_rule_1 : decode cX1_rule 1 = .ok (.new 102, 3) := dk_187 0 102 (dk_at dksX1_rule_0 1 rfl rfl)
theorem dX1_rule_4 : decode cX1_rule 4 = .ok (.dup, 1) := dk_89 (dk_at dksX1_rule_0 4 rfl rfl)
theorem dX1_rule_5 : decode cX1_rule 5 = .ok (.aload_n 0, 1) := dk_42 (dk_at dksX1_rule_0 5 rfl rfl)
theorem dX1_rule_6 : decode cX1_rule 6 = .ok (.invokevirtual 147, 3) := dk_182 0 147 (dk_at dksX1_rule_0 6 rfl rfl)
theorem dX1_rule_9 : decode cX1_rule 9 = .ok (.invokespecial 150, 3) := dk_183 0 150 (dk_at dksX1_rule_0 9 rfl rfl)
theorem dX1_rule_12 : decode cX1_rule 12 = .ok (.invokevirtual 153, 3) := dk_182 0 153 (dk_at dksX1_rule_0 12 rfl rfl)
theorem dX1_rule_15 : decode cX1_rule 15 = .ok (.ireturn, 1) := dk_172 (dk_at dksX1_rule_0 15 rfl rfl)
abbrev cX1_takeRule : ByteArray := prog_1_method_14_code
def yX1_takeRule : MethodName := ⟨RX1, "takeRule", "()LMatchmakerRules$Rule;"⟩
def dkwX1_takeRule_0 : List UInt8 := [42, 182, 0, 133, 182, 0, 137, 176, 76, 42, 43, 181, 0, 143, 187, 0, 1, 89, 183, 0, 3, 191]
abbrev dktX1_takeRule_0 : List UInt8 := dkwX1_takeRule_0 ++ []
theorem dksX1_takeRule_0 : cX1_takeRule.data.toList.drop 0 = dktX1_takeRule_0 := by decide +kernel
theorem dX1_takeRule_0 : decode cX1_takeRule 0 = .ok (.aload_n 0, 1) := dk_42 (dk_at dksX1_takeRule_0 0 rfl rfl)
theorem dX1_takeRule_1 : decode cX1_takeRule 1 = .ok (.invokevirtual 133, 3) := dk_182 0 133 (dk_at dksX1_takeRule_0 1 rfl rfl)
theorem dX1_takeRule_4 : decode cX1_takeRule 4 = .ok (.invokevirtual 137, 3) := dk_182 0 137 (dk_at dksX1_takeRule_0 4 rfl rfl)
theorem dX1_takeRule_7 : decode cX1_takeRule 7 = .ok (.areturn, 1) := dk_176 (dk_at dksX1_takeRule_0 7 rfl rfl)
theorem dX1_takeRule_8 : decode cX1_takeRule 8 = .ok (.astore_n 1, 1) := dk_76 (dk_at dksX1_takeRule_0 8 rfl rfl)
theorem dX1_takeRule_9 : decode cX1_takeRule 9 = .ok (.aload_n 0, 1) := dk_42 (dk_at dksX1_takeRule_0 9 rfl rfl)
theorem dX1_takeRule_10 : decode cX1_takeRule 10 = .ok (.aload_n 1, 1) := dk_43 (dk_at dksX1_takeRule_0 10 rfl rfl)
theorem dX1_takeRule_11 : decode cX1_takeRule 11 = .ok (.putfield 143, 3) := dk_181 0 143 (dk_at dksX1_takeRule_0 11 rfl rfl)
theorem dX1_takeRule_14 : decode cX1_takeRule 14 = .ok (.new 1, 3) := dk_187 0 1 (dk_at dksX1_takeRule_0 14 rfl rfl)
theorem dX1_takeRule_17 : decode cX1_takeRule 17 = .ok (.dup, 1) := dk_89 (dk_at dksX1_takeRule_0 17 rfl rfl)
theorem dX1_takeRule_18 : decode cX1_takeRule 18 = .ok (.invokespecial 3, 3) := dk_183 0 3 (dk_at dksX1_takeRule_0 18 rfl rfl)
theorem dX1_takeRule_21 : decode cX1_takeRule 21 = .ok (.athrow, 1) := dk_191 (dk_at dksX1_takeRule_0 21 rfl rfl)
abbrev cX1_takeInput : ByteArray := prog_1_method_12_code
def yX1_takeInput : MethodName := ⟨RX1, "takeInput", "()LMatchmakerRules$Parser;"⟩
def dkwX1_takeInput_1 : List UInt8 := [176]
abbrev dktX1_takeInput_1 : List UInt8 := dkwX1_takeInput_1 ++ []
def dkwX1_takeInput_0 : List UInt8 := [187, 0, 120, 89, 42, 180, 0, 72, 183, 0, 122, 76, 42, 187, 0, 69, 89, 183, 0, 71, 181, 0, 72, 43]
abbrev dktX1_takeInput_0 : List UInt8 := dkwX1_takeInput_0 ++ dktX1_takeInput_1
theorem dksX1_takeInput_0 : cX1_takeInput.data.toList.drop 0 = dktX1_takeInput_0 := by decide +kernel
theorem dksX1_takeInput_1 : cX1_takeInput.data.toList.drop 24 = dktX1_takeInput_1 := dk_seg dksX1_takeInput_0 24 rfl rfl
theorem dX1_takeInput_0 : decode cX1_takeInput 0 = .ok (.new 120, 3) := dk_187 0 120 (dk_at dksX1_takeInput_0 0 rfl rfl)
theorem dX1_takeInput_3 : decode cX1_takeInput 3 = .ok (.dup, 1) := dk_89 (dk_at dksX1_takeInput_0 3 rfl rfl)
theorem dX1_takeInput_4 : decode cX1_takeInput 4 = .ok (.aload_n 0, 1) := dk_42 (dk_at dksX1_takeInput_0 4 rfl rfl)
theorem dX1_takeInput_5 : decode cX1_takeInput 5 = .ok (.getfield 72, 3) := dk_180 0 72 (dk_at dksX1_takeInput_0 5 rfl rfl)
theorem dX1_takeInput_8 : decode cX1_takeInput 8 = .ok (.invokespecial 122, 3) := dk_183 0 122 (dk_at dksX1_takeInput_0 8 rfl rfl)
theorem dX1_takeInput_11 : decode cX1_takeInput 11 = .ok (.astore_n 1, 1) := dk_76 (dk_at dksX1_takeInput_0 11 rfl rfl)
theorem dX1_takeInput_12 : decode cX1_takeInput 12 = .ok (.aload_n 0, 1) := dk_42 (dk_at dksX1_takeInput_0 12 rfl rfl)
theorem dX1_takeInput_13 : decode cX1_takeInput 13 = .ok (.new 69, 3) := dk_187 0 69 (dk_at dksX1_takeInput_0 13 rfl rfl)
theorem dX1_takeInput_16 : decode cX1_takeInput 16 = .ok (.dup, 1) := dk_89 (dk_at dksX1_takeInput_0 16 rfl rfl)
theorem dX1_takeInput_17 : decode cX1_takeInput 17 = .ok (.invokespecial 71, 3) := dk_183 0 71 (dk_at dksX1_takeInput_0 17 rfl rfl)
theorem dX1_takeInput_20 : decode cX1_takeInput 20 = .ok (.putfield 72, 3) := dk_181 0 72 (dk_at dksX1_takeInput_0 20 rfl rfl)
theorem dX1_takeInput_23 : decode cX1_takeInput 23 = .ok (.aload_n 1, 1) := dk_43 (dk_at dksX1_takeInput_0 23 rfl rfl)
theorem dX1_takeInput_24 : decode cX1_takeInput 24 = .ok (.areturn, 1) := dk_176 (dk_at dksX1_takeInput_1 0 rfl rfl)
abbrev cX1_inRange : ByteArray := prog_1_method_1_code
def yX1_inRange : MethodName := ⟨RX1, "inRange", "(JJJ)Z"⟩
def dkwX1_inRange_0 : List UInt8 := [30, 32, 148, 155, 0, 14, 30, 22, 4, 148, 157, 0, 7, 4, 167, 0, 4, 3, 172]
abbrev dktX1_inRange_0 : List UInt8 := dkwX1_inRange_0 ++ []
theorem dksX1_inRange_0 : cX1_inRange.data.toList.drop 0 = dktX1_inRange_0 := by decide +kernel
theorem dX1_inRange_0 : decode cX1_inRange 0 = .ok (.lload_n 0, 1) := dk_30 (dk_at dksX1_inRange_0 0 rfl rfl)
theorem dX1_inRange_1 : decode cX1_inRange 1 = .ok (.lload_n 2, 1) := dk_32 (dk_at dksX1_inRange_0 1 rfl rfl)
theorem dX1_inRange_2 : decode cX1_inRange 2 = .ok (.lcmp, 1) := dk_148 (dk_at dksX1_inRange_0 2 rfl rfl)
theorem dX1_inRange_3 : decode cX1_inRange 3 = .ok (.ifCond .lt 14, 3) := dk_155 0 14 (dk_at dksX1_inRange_0 3 rfl rfl)
theorem dX1_inRange_6 : decode cX1_inRange 6 = .ok (.lload_n 0, 1) := dk_30 (dk_at dksX1_inRange_0 6 rfl rfl)
theorem dX1_inRange_7 : decode cX1_inRange 7 = .ok (.lload 4, 2) := dk_22 4 (dk_at dksX1_inRange_0 7 rfl rfl)
theorem dX1_inRange_9 : decode cX1_inRange 9 = .ok (.lcmp, 1) := dk_148 (dk_at dksX1_inRange_0 9 rfl rfl)
theorem dX1_inRange_10 : decode cX1_inRange 10 = .ok (.ifCond .gt 7, 3) := dk_157 0 7 (dk_at dksX1_inRange_0 10 rfl rfl)
theorem dX1_inRange_13 : decode cX1_inRange 13 = .ok (.iconst 1, 1) := dk_4 (dk_at dksX1_inRange_0 13 rfl rfl)
theorem dX1_inRange_14 : decode cX1_inRange 14 = .ok (.goto 4, 3) := dk_167 0 4 (dk_at dksX1_inRange_0 14 rfl rfl)
theorem dX1_inRange_17 : decode cX1_inRange 17 = .ok (.iconst 0, 1) := dk_3 (dk_at dksX1_inRange_0 17 rfl rfl)
theorem dX1_inRange_18 : decode cX1_inRange 18 = .ok (.ireturn, 1) := dk_172 (dk_at dksX1_inRange_0 18 rfl rfl)
abbrev cX1_change : ByteArray := prog_1_method_11_code
def yX1_change : MethodName := ⟨RX1, "change", "(LMatchmakerRules$Change;)I"⟩
def dkwX1_change_1 : List UInt8 := [181, 0, 109, 187, 0, 113, 89, 183, 0, 115, 191, 42, 44, 182, 0, 116, 29, 172]
abbrev dktX1_change_1 : List UInt8 := dkwX1_change_1 ++ []
def dkwX1_change_0 : List UInt8 := [42, 180, 0, 52, 182, 0, 97, 77, 43, 44, 182, 0, 101, 62, 167, 0, 19, 58, 4, 42, 25, 4]
abbrev dktX1_change_0 : List UInt8 := dkwX1_change_0 ++ dktX1_change_1
theorem dksX1_change_0 : cX1_change.data.toList.drop 0 = dktX1_change_0 := by decide +kernel
theorem dksX1_change_1 : cX1_change.data.toList.drop 22 = dktX1_change_1 := dk_seg dksX1_change_0 22 rfl rfl
theorem dX1_change_0 : decode cX1_change 0 = .ok (.aload_n 0, 1) := dk_42 (dk_at dksX1_change_0 0 rfl rfl)
theorem dX1_change_1 : decode cX1_change 1 = .ok (.getfield 52, 3) := dk_180 0 52 (dk_at dksX1_change_0 1 rfl rfl)
theorem dX1_change_4 : decode cX1_change 4 = .ok (.invokevirtual 97, 3) := dk_182 0 97 (dk_at dksX1_change_0 4 rfl rfl)
theorem dX1_change_7 : decode cX1_change 7 = .ok (.astore_n 2, 1) := dk_77 (dk_at dksX1_change_0 7 rfl rfl)
theorem dX1_change_8 : decode cX1_change 8 = .ok (.aload_n 1, 1) := dk_43 (dk_at dksX1_change_0 8 rfl rfl)
theorem dX1_change_9 : decode cX1_change 9 = .ok (.aload_n 2, 1) := dk_44 (dk_at dksX1_change_0 9 rfl rfl)
theorem dX1_change_10 : decode cX1_change 10 = .ok (.invokevirtual 101, 3) := dk_182 0 101 (dk_at dksX1_change_0 10 rfl rfl)
theorem dX1_change_13 : decode cX1_change 13 = .ok (.istore_n 3, 1) := dk_62 (dk_at dksX1_change_0 13 rfl rfl)
theorem dX1_change_14 : decode cX1_change 14 = .ok (.goto 19, 3) := dk_167 0 19 (dk_at dksX1_change_0 14 rfl rfl)
theorem dX1_change_17 : decode cX1_change 17 = .ok (.astore 4, 2) := dk_58 4 (dk_at dksX1_change_0 17 rfl rfl)
theorem dX1_change_19 : decode cX1_change 19 = .ok (.aload_n 0, 1) := dk_42 (dk_at dksX1_change_0 19 rfl rfl)
theorem dX1_change_20 : decode cX1_change 20 = .ok (.aload 4, 2) := dk_25 4 (dk_at dksX1_change_0 20 rfl rfl)
theorem dX1_change_22 : decode cX1_change 22 = .ok (.putfield 109, 3) := dk_181 0 109 (dk_at dksX1_change_1 0 rfl rfl)
theorem dX1_change_25 : decode cX1_change 25 = .ok (.new 113, 3) := dk_187 0 113 (dk_at dksX1_change_1 3 rfl rfl)
theorem dX1_change_28 : decode cX1_change 28 = .ok (.dup, 1) := dk_89 (dk_at dksX1_change_1 6 rfl rfl)
theorem dX1_change_29 : decode cX1_change 29 = .ok (.invokespecial 115, 3) := dk_183 0 115 (dk_at dksX1_change_1 7 rfl rfl)
theorem dX1_change_32 : decode cX1_change 32 = .ok (.athrow, 1) := dk_191 (dk_at dksX1_change_1 10 rfl rfl)
theorem dX1_change_33 : decode cX1_change 33 = .ok (.aload_n 0, 1) := dk_42 (dk_at dksX1_change_1 11 rfl rfl)
theorem dX1_change_34 : decode cX1_change 34 = .ok (.aload_n 2, 1) := dk_44 (dk_at dksX1_change_1 12 rfl rfl)
theorem dX1_change_35 : decode cX1_change 35 = .ok (.invokevirtual 116, 3) := dk_182 0 116 (dk_at dksX1_change_1 13 rfl rfl)
theorem dX1_change_38 : decode cX1_change 38 = .ok (.iload_n 3, 1) := dk_29 (dk_at dksX1_change_1 16 rfl rfl)
theorem dX1_change_39 : decode cX1_change 39 = .ok (.ireturn, 1) := dk_172 (dk_at dksX1_change_1 17 rfl rfl)
abbrev cX1_remove : ByteArray := prog_1_method_8_code
def yX1_remove : MethodName := ⟨RX1, "remove", "(Ljava/util/ArrayList;LMatchmakerRules$Test;)V"⟩
def dkwX1_remove_1 : List UInt8 := [185, 0, 37, 2, 0, 153, 255, 232, 44, 185, 0, 43, 1, 0, 167, 255, 223, 177]
abbrev dktX1_remove_1 : List UInt8 := dkwX1_remove_1 ++ []
def dkwX1_remove_0 : List UInt8 := [42, 182, 0, 19, 77, 44, 185, 0, 25, 1, 0, 153, 0, 30, 43, 44, 185, 0, 31, 1, 0, 192, 0, 35]
abbrev dktX1_remove_0 : List UInt8 := dkwX1_remove_0 ++ dktX1_remove_1
theorem dksX1_remove_0 : cX1_remove.data.toList.drop 0 = dktX1_remove_0 := by decide +kernel
theorem dksX1_remove_1 : cX1_remove.data.toList.drop 24 = dktX1_remove_1 := dk_seg dksX1_remove_0 24 rfl rfl
theorem dX1_remove_0 : decode cX1_remove 0 = .ok (.aload_n 0, 1) := dk_42 (dk_at dksX1_remove_0 0 rfl rfl)
theorem dX1_remove_1 : decode cX1_remove 1 = .ok (.invokevirtual 19, 3) := dk_182 0 19 (dk_at dksX1_remove_0 1 rfl rfl)
theorem dX1_remove_4 : decode cX1_remove 4 = .ok (.astore_n 2, 1) := dk_77 (dk_at dksX1_remove_0 4 rfl rfl)
theorem dX1_remove_5 : decode cX1_remove 5 = .ok (.aload_n 2, 1) := dk_44 (dk_at dksX1_remove_0 5 rfl rfl)
theorem dX1_remove_6 : decode cX1_remove 6 = .ok (.invokeinterface 25 1, 5) := by decide +kernel
theorem dX1_remove_11 : decode cX1_remove 11 = .ok (.ifCond .eq 30, 3) := dk_153 0 30 (dk_at dksX1_remove_0 11 rfl rfl)
theorem dX1_remove_14 : decode cX1_remove 14 = .ok (.aload_n 1, 1) := dk_43 (dk_at dksX1_remove_0 14 rfl rfl)
theorem dX1_remove_15 : decode cX1_remove 15 = .ok (.aload_n 2, 1) := dk_44 (dk_at dksX1_remove_0 15 rfl rfl)
theorem dX1_remove_16 : decode cX1_remove 16 = .ok (.invokeinterface 31 1, 5) := by decide +kernel
theorem dX1_remove_21 : decode cX1_remove 21 = .ok (.checkcast 35, 3) := dk_192 0 35 (dk_at dksX1_remove_0 21 rfl rfl)
theorem dX1_remove_24 : decode cX1_remove 24 = .ok (.invokeinterface 37 2, 5) := by decide +kernel
theorem dX1_remove_29 : decode cX1_remove 29 = .ok (.ifCond .eq (-24), 3) := dk_153 255 232 (dk_at dksX1_remove_1 5 rfl rfl)
theorem dX1_remove_32 : decode cX1_remove 32 = .ok (.aload_n 2, 1) := dk_44 (dk_at dksX1_remove_1 8 rfl rfl)
theorem dX1_remove_33 : decode cX1_remove 33 = .ok (.invokeinterface 43 1, 5) := by decide +kernel
theorem dX1_remove_38 : decode cX1_remove 38 = .ok (.goto (-33), 3) := dk_167 255 223 (dk_at dksX1_remove_1 14 rfl rfl)
theorem dX1_remove_41 : decode cX1_remove 41 = .ok (.return_, 1) := dk_177 (dk_at dksX1_remove_1 17 rfl rfl)
abbrev cX1_checkArgument : ByteArray := prog_1_method_2_code
def yX1_checkArgument : MethodName := ⟨RX1, "checkArgument", "(Z)V"⟩
def dkwX1_checkArgument_0 : List UInt8 := [26, 154, 0, 11, 187, 0, 1, 89, 183, 0, 3, 191, 177]
abbrev dktX1_checkArgument_0 : List UInt8 := dkwX1_checkArgument_0 ++ []
theorem dksX1_checkArgument_0 : cX1_checkArgument.data.toList.drop 0 = dktX1_checkArgument_0 := by decide +kernel
theorem dX1_checkArgument_0 : decode cX1_checkArgument 0 = .ok (.iload_n 0, 1) := dk_26 (dk_at dksX1_checkArgument_0 0 rfl rfl)
theorem dX1_checkArgument_1 : decode cX1_checkArgument 1 = .ok (.ifCond .ne 11, 3) := dk_154 0 11 (dk_at dksX1_checkArgument_0 1 rfl rfl)
theorem dX1_checkArgument_4 : decode cX1_checkArgument 4 = .ok (.new 1, 3) := dk_187 0 1 (dk_at dksX1_checkArgument_0 4 rfl rfl)
theorem dX1_checkArgument_7 : decode cX1_checkArgument 7 = .ok (.dup, 1) := dk_89 (dk_at dksX1_checkArgument_0 7 rfl rfl)
theorem dX1_checkArgument_8 : decode cX1_checkArgument 8 = .ok (.invokespecial 3, 3) := dk_183 0 3 (dk_at dksX1_checkArgument_0 8 rfl rfl)
theorem dX1_checkArgument_11 : decode cX1_checkArgument 11 = .ok (.athrow, 1) := dk_191 (dk_at dksX1_checkArgument_0 11 rfl rfl)
theorem dX1_checkArgument_12 : decode cX1_checkArgument 12 = .ok (.return_, 1) := dk_177 (dk_at dksX1_checkArgument_0 12 rfl rfl)
abbrev cX1_become : ByteArray := prog_1_method_10_code
def yX1_become : MethodName := ⟨RX1, "become", "(LMatchmakerRules$Book;)V"⟩
def dkwX1_become_1 : List UInt8 := [180, 0, 61, 42, 180, 0, 52, 182, 0, 93, 42, 43, 181, 0, 52, 177]
abbrev dktX1_become_1 : List UInt8 := dkwX1_become_1 ++ []
def dkwX1_become_0 : List UInt8 := [42, 180, 0, 61, 182, 0, 86, 16, 8, 160, 0, 14, 42, 180, 0, 61, 182, 0, 90, 192, 0, 49, 77, 42]
abbrev dktX1_become_0 : List UInt8 := dkwX1_become_0 ++ dktX1_become_1
theorem dksX1_become_0 : cX1_become.data.toList.drop 0 = dktX1_become_0 := by decide +kernel
theorem dksX1_become_1 : cX1_become.data.toList.drop 24 = dktX1_become_1 := dk_seg dksX1_become_0 24 rfl rfl
theorem dX1_become_0 : decode cX1_become 0 = .ok (.aload_n 0, 1) := dk_42 (dk_at dksX1_become_0 0 rfl rfl)
theorem dX1_become_1 : decode cX1_become 1 = .ok (.getfield 61, 3) := dk_180 0 61 (dk_at dksX1_become_0 1 rfl rfl)
theorem dX1_become_4 : decode cX1_become 4 = .ok (.invokevirtual 86, 3) := dk_182 0 86 (dk_at dksX1_become_0 4 rfl rfl)
theorem dX1_become_7 : decode cX1_become 7 = .ok (.bipush 8, 2) := dk_16 8 (dk_at dksX1_become_0 7 rfl rfl)
theorem dX1_become_9 : decode cX1_become 9 = .ok (.if_icmp .ne 14, 3) := dk_160 0 14 (dk_at dksX1_become_0 9 rfl rfl)
theorem dX1_become_12 : decode cX1_become 12 = .ok (.aload_n 0, 1) := dk_42 (dk_at dksX1_become_0 12 rfl rfl)
theorem dX1_become_13 : decode cX1_become 13 = .ok (.getfield 61, 3) := dk_180 0 61 (dk_at dksX1_become_0 13 rfl rfl)
theorem dX1_become_16 : decode cX1_become 16 = .ok (.invokevirtual 90, 3) := dk_182 0 90 (dk_at dksX1_become_0 16 rfl rfl)
theorem dX1_become_19 : decode cX1_become 19 = .ok (.checkcast 49, 3) := dk_192 0 49 (dk_at dksX1_become_0 19 rfl rfl)
theorem dX1_become_22 : decode cX1_become 22 = .ok (.astore_n 2, 1) := dk_77 (dk_at dksX1_become_0 22 rfl rfl)
theorem dX1_become_23 : decode cX1_become 23 = .ok (.aload_n 0, 1) := dk_42 (dk_at dksX1_become_0 23 rfl rfl)
theorem dX1_become_24 : decode cX1_become 24 = .ok (.getfield 61, 3) := dk_180 0 61 (dk_at dksX1_become_1 0 rfl rfl)
theorem dX1_become_27 : decode cX1_become 27 = .ok (.aload_n 0, 1) := dk_42 (dk_at dksX1_become_1 3 rfl rfl)
theorem dX1_become_28 : decode cX1_become 28 = .ok (.getfield 52, 3) := dk_180 0 52 (dk_at dksX1_become_1 4 rfl rfl)
theorem dX1_become_31 : decode cX1_become 31 = .ok (.invokevirtual 93, 3) := dk_182 0 93 (dk_at dksX1_become_1 7 rfl rfl)
theorem dX1_become_34 : decode cX1_become 34 = .ok (.aload_n 0, 1) := dk_42 (dk_at dksX1_become_1 10 rfl rfl)
theorem dX1_become_35 : decode cX1_become 35 = .ok (.aload_n 1, 1) := dk_43 (dk_at dksX1_become_1 11 rfl rfl)
theorem dX1_become_36 : decode cX1_become 36 = .ok (.putfield 52, 3) := dk_181 0 52 (dk_at dksX1_become_1 12 rfl rfl)
theorem dX1_become_39 : decode cX1_become 39 = .ok (.return_, 1) := dk_177 (dk_at dksX1_become_1 15 rfl rfl)
abbrev cX1_drop : ByteArray := prog_1_method_16_code
def yX1_drop : MethodName := ⟨RX1, "drop", "(I)I"⟩
def dkwX1_drop_0 : List UInt8 := [42, 187, 0, 102, 89, 16, 120, 4, 188, 10, 89, 3, 27, 79, 183, 0, 157, 182, 0, 153, 172]
abbrev dktX1_drop_0 : List UInt8 := dkwX1_drop_0 ++ []
theorem dksX1_drop_0 : cX1_drop.data.toList.drop 0 = dktX1_drop_0 := by decide +kernel
theorem dX1_drop_0 : decode cX1_drop 0 = .ok (.aload_n 0, 1) := dk_42 (dk_at dksX1_drop_0 0 rfl rfl)
theorem dX1_drop_1 : decode cX1_drop 1 = .ok (.new 102, 3) := dk_187 0 102 (dk_at dksX1_drop_0 1 rfl rfl)
theorem dX1_drop_4 : decode cX1_drop 4 = .ok (.dup, 1) := dk_89 (dk_at dksX1_drop_0 4 rfl rfl)
theorem dX1_drop_5 : decode cX1_drop 5 = .ok (.bipush 120, 2) := dk_16 120 (dk_at dksX1_drop_0 5 rfl rfl)
theorem dX1_drop_7 : decode cX1_drop 7 = .ok (.iconst 1, 1) := dk_4 (dk_at dksX1_drop_0 7 rfl rfl)
theorem dX1_drop_8 : decode cX1_drop 8 = .ok (.newarray .int, 2) := dk_188_10 (dk_at dksX1_drop_0 8 rfl rfl)
theorem dX1_drop_10 : decode cX1_drop 10 = .ok (.dup, 1) := dk_89 (dk_at dksX1_drop_0 10 rfl rfl)
theorem dX1_drop_11 : decode cX1_drop 11 = .ok (.iconst 0, 1) := dk_3 (dk_at dksX1_drop_0 11 rfl rfl)
theorem dX1_drop_12 : decode cX1_drop 12 = .ok (.iload_n 1, 1) := dk_27 (dk_at dksX1_drop_0 12 rfl rfl)
theorem dX1_drop_13 : decode cX1_drop 13 = .ok (.iastore, 1) := dk_79 (dk_at dksX1_drop_0 13 rfl rfl)
theorem dX1_drop_14 : decode cX1_drop 14 = .ok (.invokespecial 157, 3) := dk_183 0 157 (dk_at dksX1_drop_0 14 rfl rfl)
theorem dX1_drop_17 : decode cX1_drop 17 = .ok (.invokevirtual 153, 3) := dk_182 0 153 (dk_at dksX1_drop_0 17 rfl rfl)
theorem dX1_drop_20 : decode cX1_drop 20 = .ok (.ireturn, 1) := dk_172 (dk_at dksX1_drop_0 20 rfl rfl)
abbrev cX1_tell : ByteArray := prog_1_method_17_code
def yX1_tell : MethodName := ⟨RX1, "tell", "(CIII)I"⟩
def dkwX1_tell_1 : List UInt8 := [21, 4, 79, 183, 0, 157, 182, 0, 153, 172]
abbrev dktX1_tell_1 : List UInt8 := dkwX1_tell_1 ++ []
def dkwX1_tell_0 : List UInt8 := [42, 187, 0, 102, 89, 16, 43, 7, 188, 10, 89, 3, 27, 79, 89, 4, 28, 79, 89, 5, 29, 79, 89, 6]
abbrev dktX1_tell_0 : List UInt8 := dkwX1_tell_0 ++ dktX1_tell_1
theorem dksX1_tell_0 : cX1_tell.data.toList.drop 0 = dktX1_tell_0 := by decide +kernel
theorem dksX1_tell_1 : cX1_tell.data.toList.drop 24 = dktX1_tell_1 := dk_seg dksX1_tell_0 24 rfl rfl
theorem dX1_tell_0 : decode cX1_tell 0 = .ok (.aload_n 0, 1) := dk_42 (dk_at dksX1_tell_0 0 rfl rfl)
theorem dX1_tell_1 : decode cX1_tell 1 = .ok (.new 102, 3) := dk_187 0 102 (dk_at dksX1_tell_0 1 rfl rfl)
theorem dX1_tell_4 : decode cX1_tell 4 = .ok (.dup, 1) := dk_89 (dk_at dksX1_tell_0 4 rfl rfl)
theorem dX1_tell_5 : decode cX1_tell 5 = .ok (.bipush 43, 2) := dk_16 43 (dk_at dksX1_tell_0 5 rfl rfl)
theorem dX1_tell_7 : decode cX1_tell 7 = .ok (.iconst 4, 1) := dk_7 (dk_at dksX1_tell_0 7 rfl rfl)
theorem dX1_tell_8 : decode cX1_tell 8 = .ok (.newarray .int, 2) := dk_188_10 (dk_at dksX1_tell_0 8 rfl rfl)
theorem dX1_tell_10 : decode cX1_tell 10 = .ok (.dup, 1) := dk_89 (dk_at dksX1_tell_0 10 rfl rfl)
theorem dX1_tell_11 : decode cX1_tell 11 = .ok (.iconst 0, 1) := dk_3 (dk_at dksX1_tell_0 11 rfl rfl)
theorem dX1_tell_12 : decode cX1_tell 12 = .ok (.iload_n 1, 1) := dk_27 (dk_at dksX1_tell_0 12 rfl rfl)
theorem dX1_tell_13 : decode cX1_tell 13 = .ok (.iastore, 1) := dk_79 (dk_at dksX1_tell_0 13 rfl rfl)
theorem dX1_tell_14 : decode cX1_tell 14 = .ok (.dup, 1) := dk_89 (dk_at dksX1_tell_0 14 rfl rfl)
theorem dX1_tell_15 : decode cX1_tell 15 = .ok (.iconst 1, 1) := dk_4 (dk_at dksX1_tell_0 15 rfl rfl)
theorem dX1_tell_16 : decode cX1_tell 16 = .ok (.iload_n 2, 1) := dk_28 (dk_at dksX1_tell_0 16 rfl rfl)
theorem dX1_tell_17 : decode cX1_tell 17 = .ok (.iastore, 1) := dk_79 (dk_at dksX1_tell_0 17 rfl rfl)
theorem dX1_tell_18 : decode cX1_tell 18 = .ok (.dup, 1) := dk_89 (dk_at dksX1_tell_0 18 rfl rfl)
theorem dX1_tell_19 : decode cX1_tell 19 = .ok (.iconst 2, 1) := dk_5 (dk_at dksX1_tell_0 19 rfl rfl)
theorem dX1_tell_20 : decode cX1_tell 20 = .ok (.iload_n 3, 1) := dk_29 (dk_at dksX1_tell_0 20 rfl rfl)
theorem dX1_tell_21 : decode cX1_tell 21 = .ok (.iastore, 1) := dk_79 (dk_at dksX1_tell_0 21 rfl rfl)
theorem dX1_tell_22 : decode cX1_tell 22 = .ok (.dup, 1) := dk_89 (dk_at dksX1_tell_0 22 rfl rfl)
theorem dX1_tell_23 : decode cX1_tell 23 = .ok (.iconst 3, 1) := dk_6 (dk_at dksX1_tell_0 23 rfl rfl)
theorem dX1_tell_24 : decode cX1_tell 24 = .ok (.iload 4, 2) := dk_21 4 (dk_at dksX1_tell_1 0 rfl rfl)
theorem dX1_tell_26 : decode cX1_tell 26 = .ok (.iastore, 1) := dk_79 (dk_at dksX1_tell_1 2 rfl rfl)
theorem dX1_tell_27 : decode cX1_tell 27 = .ok (.invokespecial 157, 3) := dk_183 0 157 (dk_at dksX1_tell_1 3 rfl rfl)
theorem dX1_tell_30 : decode cX1_tell 30 = .ok (.invokevirtual 153, 3) := dk_182 0 153 (dk_at dksX1_tell_1 6 rfl rfl)
theorem dX1_tell_33 : decode cX1_tell 33 = .ok (.ireturn, 1) := dk_172 (dk_at dksX1_tell_1 9 rfl rfl)
abbrev cX1_untell : ByteArray := prog_1_method_18_code
def yX1_untell : MethodName := ⟨RX1, "untell", "(I)I"⟩
def dkwX1_untell_0 : List UInt8 := [42, 187, 0, 102, 89, 16, 45, 4, 188, 10, 89, 3, 27, 79, 183, 0, 157, 182, 0, 153, 172]
abbrev dktX1_untell_0 : List UInt8 := dkwX1_untell_0 ++ []
theorem dksX1_untell_0 : cX1_untell.data.toList.drop 0 = dktX1_untell_0 := by decide +kernel
theorem dX1_untell_0 : decode cX1_untell 0 = .ok (.aload_n 0, 1) := dk_42 (dk_at dksX1_untell_0 0 rfl rfl)
theorem dX1_untell_1 : decode cX1_untell 1 = .ok (.new 102, 3) := dk_187 0 102 (dk_at dksX1_untell_0 1 rfl rfl)
theorem dX1_untell_4 : decode cX1_untell 4 = .ok (.dup, 1) := dk_89 (dk_at dksX1_untell_0 4 rfl rfl)
theorem dX1_untell_5 : decode cX1_untell 5 = .ok (.bipush 45, 2) := dk_16 45 (dk_at dksX1_untell_0 5 rfl rfl)
theorem dX1_untell_7 : decode cX1_untell 7 = .ok (.iconst 1, 1) := dk_4 (dk_at dksX1_untell_0 7 rfl rfl)
theorem dX1_untell_8 : decode cX1_untell 8 = .ok (.newarray .int, 2) := dk_188_10 (dk_at dksX1_untell_0 8 rfl rfl)
theorem dX1_untell_10 : decode cX1_untell 10 = .ok (.dup, 1) := dk_89 (dk_at dksX1_untell_0 10 rfl rfl)
theorem dX1_untell_11 : decode cX1_untell 11 = .ok (.iconst 0, 1) := dk_3 (dk_at dksX1_untell_0 11 rfl rfl)
theorem dX1_untell_12 : decode cX1_untell 12 = .ok (.iload_n 1, 1) := dk_27 (dk_at dksX1_untell_0 12 rfl rfl)
theorem dX1_untell_13 : decode cX1_untell 13 = .ok (.iastore, 1) := dk_79 (dk_at dksX1_untell_0 13 rfl rfl)
theorem dX1_untell_14 : decode cX1_untell 14 = .ok (.invokespecial 157, 3) := dk_183 0 157 (dk_at dksX1_untell_0 14 rfl rfl)
theorem dX1_untell_17 : decode cX1_untell 17 = .ok (.invokevirtual 153, 3) := dk_182 0 153 (dk_at dksX1_untell_0 17 rfl rfl)
theorem dX1_untell_20 : decode cX1_untell 20 = .ok (.ireturn, 1) := dk_172 (dk_at dksX1_untell_0 20 rfl rfl)
abbrev cX1_find : ByteArray := prog_1_method_20_code
def yX1_find : MethodName := ⟨RX1, "find", "(CII)I"⟩
def dkwX1_find_0 : List UInt8 := [42, 180, 0, 52, 27, 28, 29, 182, 0, 169, 184, 0, 173, 172]
abbrev dktX1_find_0 : List UInt8 := dkwX1_find_0 ++ []
theorem dksX1_find_0 : cX1_find.data.toList.drop 0 = dktX1_find_0 := by decide +kernel
theorem dX1_find_0 : decode cX1_find 0 = .ok (.aload_n 0, 1) := dk_42 (dk_at dksX1_find_0 0 rfl rfl)
theorem dX1_find_1 : decode cX1_find 1 = .ok (.getfield 52, 3) := dk_180 0 52 (dk_at dksX1_find_0 1 rfl rfl)
theorem dX1_find_4 : decode cX1_find 4 = .ok (.iload_n 1, 1) := dk_27 (dk_at dksX1_find_0 4 rfl rfl)
theorem dX1_find_5 : decode cX1_find 5 = .ok (.iload_n 2, 1) := dk_28 (dk_at dksX1_find_0 5 rfl rfl)
theorem dX1_find_6 : decode cX1_find 6 = .ok (.iload_n 3, 1) := dk_29 (dk_at dksX1_find_0 6 rfl rfl)
theorem dX1_find_7 : decode cX1_find 7 = .ok (.invokevirtual 169, 3) := dk_182 0 169 (dk_at dksX1_find_0 7 rfl rfl)
theorem dX1_find_10 : decode cX1_find 10 = .ok (.invokestatic 173, 3) := dk_184 0 173 (dk_at dksX1_find_0 10 rfl rfl)
theorem dX1_find_13 : decode cX1_find 13 = .ok (.ireturn, 1) := dk_172 (dk_at dksX1_find_0 13 rfl rfl)
abbrev cX1_numberOf : ByteArray := prog_1_method_19_code
def yX1_numberOf : MethodName := ⟨RX1, "numberOf", "(LMatchmakerRules$Fact;)I"⟩
def dkwX1_numberOf_0 : List UInt8 := [42, 198, 0, 7, 4, 167, 0, 4, 3, 184, 0, 160, 42, 180, 0, 164, 172]
abbrev dktX1_numberOf_0 : List UInt8 := dkwX1_numberOf_0 ++ []
theorem dksX1_numberOf_0 : cX1_numberOf.data.toList.drop 0 = dktX1_numberOf_0 := by decide +kernel
theorem dX1_numberOf_0 : decode cX1_numberOf 0 = .ok (.aload_n 0, 1) := dk_42 (dk_at dksX1_numberOf_0 0 rfl rfl)
theorem dX1_numberOf_1 : decode cX1_numberOf 1 = .ok (.ifnull 7, 3) := dk_198 0 7 (dk_at dksX1_numberOf_0 1 rfl rfl)
theorem dX1_numberOf_4 : decode cX1_numberOf 4 = .ok (.iconst 1, 1) := dk_4 (dk_at dksX1_numberOf_0 4 rfl rfl)
theorem dX1_numberOf_5 : decode cX1_numberOf 5 = .ok (.goto 4, 3) := dk_167 0 4 (dk_at dksX1_numberOf_0 5 rfl rfl)
theorem dX1_numberOf_8 : decode cX1_numberOf 8 = .ok (.iconst 0, 1) := dk_3 (dk_at dksX1_numberOf_0 8 rfl rfl)
theorem dX1_numberOf_9 : decode cX1_numberOf 9 = .ok (.invokestatic 160, 3) := dk_184 0 160 (dk_at dksX1_numberOf_0 9 rfl rfl)
theorem dX1_numberOf_12 : decode cX1_numberOf 12 = .ok (.aload_n 0, 1) := dk_42 (dk_at dksX1_numberOf_0 12 rfl rfl)
theorem dX1_numberOf_13 : decode cX1_numberOf 13 = .ok (.getfield 164, 3) := dk_180 0 164 (dk_at dksX1_numberOf_0 13 rfl rfl)
theorem dX1_numberOf_16 : decode cX1_numberOf 16 = .ok (.ireturn, 1) := dk_172 (dk_at dksX1_numberOf_0 16 rfl rfl)
abbrev cX1_checkElement : ByteArray := prog_1_method_5_code
def yX1_checkElement : MethodName := ⟨RX1, "checkElement", "(Z)V"⟩
def dkwX1_checkElement_0 : List UInt8 := [26, 154, 0, 11, 187, 0, 13, 89, 183, 0, 15, 191, 177]
abbrev dktX1_checkElement_0 : List UInt8 := dkwX1_checkElement_0 ++ []
theorem dksX1_checkElement_0 : cX1_checkElement.data.toList.drop 0 = dktX1_checkElement_0 := by decide +kernel
theorem dX1_checkElement_0 : decode cX1_checkElement 0 = .ok (.iload_n 0, 1) := dk_26 (dk_at dksX1_checkElement_0 0 rfl rfl)
theorem dX1_checkElement_1 : decode cX1_checkElement 1 = .ok (.ifCond .ne 11, 3) := dk_154 0 11 (dk_at dksX1_checkElement_0 1 rfl rfl)
theorem dX1_checkElement_4 : decode cX1_checkElement 4 = .ok (.new 13, 3) := dk_187 0 13 (dk_at dksX1_checkElement_0 4 rfl rfl)
theorem dX1_checkElement_7 : decode cX1_checkElement 7 = .ok (.dup, 1) := dk_89 (dk_at dksX1_checkElement_0 7 rfl rfl)
theorem dX1_checkElement_8 : decode cX1_checkElement 8 = .ok (.invokespecial 15, 3) := dk_183 0 15 (dk_at dksX1_checkElement_0 8 rfl rfl)
theorem dX1_checkElement_11 : decode cX1_checkElement 11 = .ok (.athrow, 1) := dk_191 (dk_at dksX1_checkElement_0 11 rfl rfl)
theorem dX1_checkElement_12 : decode cX1_checkElement 12 = .ok (.return_, 1) := dk_177 (dk_at dksX1_checkElement_0 12 rfl rfl)
abbrev cX1_factAt : ByteArray := prog_1_method_21_code
def yX1_factAt : MethodName := ⟨RX1, "factAt", "(I)I"⟩
def dkwX1_factAt_1 : List UInt8 := [180, 0, 52, 180, 0, 125, 27, 182, 0, 181, 192, 0, 165, 180, 0, 164, 172]
abbrev dktX1_factAt_1 : List UInt8 := dkwX1_factAt_1 ++ []
def dkwX1_factAt_0 : List UInt8 := [27, 133, 9, 42, 180, 0, 52, 180, 0, 125, 182, 0, 129, 4, 100, 133, 184, 0, 177, 184, 0, 160, 42]
abbrev dktX1_factAt_0 : List UInt8 := dkwX1_factAt_0 ++ dktX1_factAt_1
theorem dksX1_factAt_0 : cX1_factAt.data.toList.drop 0 = dktX1_factAt_0 := by decide +kernel
theorem dksX1_factAt_1 : cX1_factAt.data.toList.drop 23 = dktX1_factAt_1 := dk_seg dksX1_factAt_0 23 rfl rfl
theorem dX1_factAt_0 : decode cX1_factAt 0 = .ok (.iload_n 1, 1) := dk_27 (dk_at dksX1_factAt_0 0 rfl rfl)
theorem dX1_factAt_1 : decode cX1_factAt 1 = .ok (.i2l, 1) := dk_133 (dk_at dksX1_factAt_0 1 rfl rfl)
theorem dX1_factAt_2 : decode cX1_factAt 2 = .ok (.lconst 0, 1) := dk_9 (dk_at dksX1_factAt_0 2 rfl rfl)
theorem dX1_factAt_3 : decode cX1_factAt 3 = .ok (.aload_n 0, 1) := dk_42 (dk_at dksX1_factAt_0 3 rfl rfl)
theorem dX1_factAt_4 : decode cX1_factAt 4 = .ok (.getfield 52, 3) := dk_180 0 52 (dk_at dksX1_factAt_0 4 rfl rfl)
theorem dX1_factAt_7 : decode cX1_factAt 7 = .ok (.getfield 125, 3) := dk_180 0 125 (dk_at dksX1_factAt_0 7 rfl rfl)
theorem dX1_factAt_10 : decode cX1_factAt 10 = .ok (.invokevirtual 129, 3) := dk_182 0 129 (dk_at dksX1_factAt_0 10 rfl rfl)
theorem dX1_factAt_13 : decode cX1_factAt 13 = .ok (.iconst 1, 1) := dk_4 (dk_at dksX1_factAt_0 13 rfl rfl)
theorem dX1_factAt_14 : decode cX1_factAt 14 = .ok (.isub, 1) := dk_100 (dk_at dksX1_factAt_0 14 rfl rfl)
theorem dX1_factAt_15 : decode cX1_factAt 15 = .ok (.i2l, 1) := dk_133 (dk_at dksX1_factAt_0 15 rfl rfl)
theorem dX1_factAt_16 : decode cX1_factAt 16 = .ok (.invokestatic 177, 3) := dk_184 0 177 (dk_at dksX1_factAt_0 16 rfl rfl)
theorem dX1_factAt_19 : decode cX1_factAt 19 = .ok (.invokestatic 160, 3) := dk_184 0 160 (dk_at dksX1_factAt_0 19 rfl rfl)
theorem dX1_factAt_22 : decode cX1_factAt 22 = .ok (.aload_n 0, 1) := dk_42 (dk_at dksX1_factAt_0 22 rfl rfl)
theorem dX1_factAt_23 : decode cX1_factAt 23 = .ok (.getfield 52, 3) := dk_180 0 52 (dk_at dksX1_factAt_1 0 rfl rfl)
theorem dX1_factAt_26 : decode cX1_factAt 26 = .ok (.getfield 125, 3) := dk_180 0 125 (dk_at dksX1_factAt_1 3 rfl rfl)
theorem dX1_factAt_29 : decode cX1_factAt 29 = .ok (.iload_n 1, 1) := dk_27 (dk_at dksX1_factAt_1 6 rfl rfl)
theorem dX1_factAt_30 : decode cX1_factAt 30 = .ok (.invokevirtual 181, 3) := dk_182 0 181 (dk_at dksX1_factAt_1 7 rfl rfl)
theorem dX1_factAt_33 : decode cX1_factAt 33 = .ok (.checkcast 165, 3) := dk_192 0 165 (dk_at dksX1_factAt_1 10 rfl rfl)
theorem dX1_factAt_36 : decode cX1_factAt 36 = .ok (.getfield 164, 3) := dk_180 0 164 (dk_at dksX1_factAt_1 13 rfl rfl)
theorem dX1_factAt_39 : decode cX1_factAt 39 = .ok (.ireturn, 1) := dk_172 (dk_at dksX1_factAt_1 16 rfl rfl)
abbrev cX1_factOf : ByteArray := prog_1_method_22_code
def yX1_factOf : MethodName := ⟨RX1, "factOf", "(II)I"⟩
def dkwX1_factOf_4 : List UInt8 := [182, 0, 209, 172, 42, 180, 0, 52, 45, 182, 0, 212, 172, 187, 0, 1, 89, 183, 0, 3, 191]
abbrev dktX1_factOf_4 : List UInt8 := dkwX1_factOf_4 ++ []
def dkwX1_factOf_3 : List UInt8 := [167, 0, 4, 3, 172, 45, 180, 0, 203, 182, 0, 129, 172, 45, 180, 0, 206, 172, 42, 180, 0, 52, 45]
abbrev dktX1_factOf_3 : List UInt8 := dkwX1_factOf_3 ++ dktX1_factOf_4
def dkwX1_factOf_2 : List UInt8 := [45, 180, 0, 189, 172, 45, 180, 0, 193, 172, 45, 180, 0, 196, 172, 45, 180, 0, 199, 153, 0, 7, 4]
abbrev dktX1_factOf_2 : List UInt8 := dkwX1_factOf_2 ++ dktX1_factOf_3
def dkwX1_factOf_1 : List UInt8 := [170, 0, 0, 0, 0, 105, 0, 0, 0, 0, 0, 0, 0, 7, 0, 0, 0, 46, 0, 0, 0, 51, 0, 0, 0, 56, 0, 0, 0, 61, 0, 0, 0, 74, 0, 0, 0, 82, 0, 0, 0, 87, 0, 0, 0, 96]
abbrev dktX1_factOf_1 : List UInt8 := dkwX1_factOf_1 ++ dktX1_factOf_2
def dkwX1_factOf_0 : List UInt8 := [42, 180, 0, 52, 27, 182, 0, 185, 78, 28]
abbrev dktX1_factOf_0 : List UInt8 := dkwX1_factOf_0 ++ dktX1_factOf_1
theorem dksX1_factOf_0 : cX1_factOf.data.toList.drop 0 = dktX1_factOf_0 := by decide +kernel
theorem dksX1_factOf_1 : cX1_factOf.data.toList.drop 10 = dktX1_factOf_1 := dk_seg dksX1_factOf_0 10 rfl rfl
theorem dksX1_factOf_2 : cX1_factOf.data.toList.drop 56 = dktX1_factOf_2 := dk_seg dksX1_factOf_1 46 rfl rfl
theorem dksX1_factOf_3 : cX1_factOf.data.toList.drop 79 = dktX1_factOf_3 := dk_seg dksX1_factOf_2 23 rfl rfl
theorem dksX1_factOf_4 : cX1_factOf.data.toList.drop 102 = dktX1_factOf_4 := dk_seg dksX1_factOf_3 23 rfl rfl
theorem dX1_factOf_0 : decode cX1_factOf 0 = .ok (.aload_n 0, 1) := dk_42 (dk_at dksX1_factOf_0 0 rfl rfl)
theorem dX1_factOf_1 : decode cX1_factOf 1 = .ok (.getfield 52, 3) := dk_180 0 52 (dk_at dksX1_factOf_0 1 rfl rfl)
theorem dX1_factOf_4 : decode cX1_factOf 4 = .ok (.iload_n 1, 1) := dk_27 (dk_at dksX1_factOf_0 4 rfl rfl)
theorem dX1_factOf_5 : decode cX1_factOf 5 = .ok (.invokevirtual 185, 3) := dk_182 0 185 (dk_at dksX1_factOf_0 5 rfl rfl)
theorem dX1_factOf_8 : decode cX1_factOf 8 = .ok (.astore_n 3, 1) := dk_78 (dk_at dksX1_factOf_0 8 rfl rfl)
theorem dX1_factOf_9 : decode cX1_factOf 9 = .ok (.iload_n 2, 1) := dk_28 (dk_at dksX1_factOf_0 9 rfl rfl)
theorem dX1_factOf_10 : decode cX1_factOf 10 = .ok (.tableswitch 105 0 7 #[46, 51, 56, 61, 74, 82, 87, 96], 46) := by decide +kernel
theorem dX1_factOf_56 : decode cX1_factOf 56 = .ok (.aload_n 3, 1) := dk_45 (dk_at dksX1_factOf_2 0 rfl rfl)
theorem dX1_factOf_57 : decode cX1_factOf 57 = .ok (.getfield 189, 3) := dk_180 0 189 (dk_at dksX1_factOf_2 1 rfl rfl)
theorem dX1_factOf_60 : decode cX1_factOf 60 = .ok (.ireturn, 1) := dk_172 (dk_at dksX1_factOf_2 4 rfl rfl)
theorem dX1_factOf_61 : decode cX1_factOf 61 = .ok (.aload_n 3, 1) := dk_45 (dk_at dksX1_factOf_2 5 rfl rfl)
theorem dX1_factOf_62 : decode cX1_factOf 62 = .ok (.getfield 193, 3) := dk_180 0 193 (dk_at dksX1_factOf_2 6 rfl rfl)
theorem dX1_factOf_65 : decode cX1_factOf 65 = .ok (.ireturn, 1) := dk_172 (dk_at dksX1_factOf_2 9 rfl rfl)
theorem dX1_factOf_66 : decode cX1_factOf 66 = .ok (.aload_n 3, 1) := dk_45 (dk_at dksX1_factOf_2 10 rfl rfl)
theorem dX1_factOf_67 : decode cX1_factOf 67 = .ok (.getfield 196, 3) := dk_180 0 196 (dk_at dksX1_factOf_2 11 rfl rfl)
theorem dX1_factOf_70 : decode cX1_factOf 70 = .ok (.ireturn, 1) := dk_172 (dk_at dksX1_factOf_2 14 rfl rfl)
theorem dX1_factOf_71 : decode cX1_factOf 71 = .ok (.aload_n 3, 1) := dk_45 (dk_at dksX1_factOf_2 15 rfl rfl)
theorem dX1_factOf_72 : decode cX1_factOf 72 = .ok (.getfield 199, 3) := dk_180 0 199 (dk_at dksX1_factOf_2 16 rfl rfl)
theorem dX1_factOf_75 : decode cX1_factOf 75 = .ok (.ifCond .eq 7, 3) := dk_153 0 7 (dk_at dksX1_factOf_2 19 rfl rfl)
theorem dX1_factOf_78 : decode cX1_factOf 78 = .ok (.iconst 1, 1) := dk_4 (dk_at dksX1_factOf_2 22 rfl rfl)
theorem dX1_factOf_79 : decode cX1_factOf 79 = .ok (.goto 4, 3) := dk_167 0 4 (dk_at dksX1_factOf_3 0 rfl rfl)
theorem dX1_factOf_82 : decode cX1_factOf 82 = .ok (.iconst 0, 1) := dk_3 (dk_at dksX1_factOf_3 3 rfl rfl)
theorem dX1_factOf_83 : decode cX1_factOf 83 = .ok (.ireturn, 1) := dk_172 (dk_at dksX1_factOf_3 4 rfl rfl)
theorem dX1_factOf_84 : decode cX1_factOf 84 = .ok (.aload_n 3, 1) := dk_45 (dk_at dksX1_factOf_3 5 rfl rfl)
theorem dX1_factOf_85 : decode cX1_factOf 85 = .ok (.getfield 203, 3) := dk_180 0 203 (dk_at dksX1_factOf_3 6 rfl rfl)
theorem dX1_factOf_88 : decode cX1_factOf 88 = .ok (.invokevirtual 129, 3) := dk_182 0 129 (dk_at dksX1_factOf_3 9 rfl rfl)
theorem dX1_factOf_91 : decode cX1_factOf 91 = .ok (.ireturn, 1) := dk_172 (dk_at dksX1_factOf_3 12 rfl rfl)
theorem dX1_factOf_92 : decode cX1_factOf 92 = .ok (.aload_n 3, 1) := dk_45 (dk_at dksX1_factOf_3 13 rfl rfl)
theorem dX1_factOf_93 : decode cX1_factOf 93 = .ok (.getfield 206, 3) := dk_180 0 206 (dk_at dksX1_factOf_3 14 rfl rfl)
theorem dX1_factOf_96 : decode cX1_factOf 96 = .ok (.ireturn, 1) := dk_172 (dk_at dksX1_factOf_3 17 rfl rfl)
theorem dX1_factOf_97 : decode cX1_factOf 97 = .ok (.aload_n 0, 1) := dk_42 (dk_at dksX1_factOf_3 18 rfl rfl)
theorem dX1_factOf_98 : decode cX1_factOf 98 = .ok (.getfield 52, 3) := dk_180 0 52 (dk_at dksX1_factOf_3 19 rfl rfl)
theorem dX1_factOf_101 : decode cX1_factOf 101 = .ok (.aload_n 3, 1) := dk_45 (dk_at dksX1_factOf_3 22 rfl rfl)
theorem dX1_factOf_102 : decode cX1_factOf 102 = .ok (.invokevirtual 209, 3) := dk_182 0 209 (dk_at dksX1_factOf_4 0 rfl rfl)
theorem dX1_factOf_105 : decode cX1_factOf 105 = .ok (.ireturn, 1) := dk_172 (dk_at dksX1_factOf_4 3 rfl rfl)
theorem dX1_factOf_106 : decode cX1_factOf 106 = .ok (.aload_n 0, 1) := dk_42 (dk_at dksX1_factOf_4 4 rfl rfl)
theorem dX1_factOf_107 : decode cX1_factOf 107 = .ok (.getfield 52, 3) := dk_180 0 52 (dk_at dksX1_factOf_4 5 rfl rfl)
theorem dX1_factOf_110 : decode cX1_factOf 110 = .ok (.aload_n 3, 1) := dk_45 (dk_at dksX1_factOf_4 8 rfl rfl)
theorem dX1_factOf_111 : decode cX1_factOf 111 = .ok (.invokevirtual 212, 3) := dk_182 0 212 (dk_at dksX1_factOf_4 9 rfl rfl)
theorem dX1_factOf_114 : decode cX1_factOf 114 = .ok (.ireturn, 1) := dk_172 (dk_at dksX1_factOf_4 12 rfl rfl)
theorem dX1_factOf_115 : decode cX1_factOf 115 = .ok (.new 1, 3) := dk_187 0 1 (dk_at dksX1_factOf_4 13 rfl rfl)
theorem dX1_factOf_118 : decode cX1_factOf 118 = .ok (.dup, 1) := dk_89 (dk_at dksX1_factOf_4 16 rfl rfl)
theorem dX1_factOf_119 : decode cX1_factOf 119 = .ok (.invokespecial 3, 3) := dk_183 0 3 (dk_at dksX1_factOf_4 17 rfl rfl)
theorem dX1_factOf_122 : decode cX1_factOf 122 = .ok (.athrow, 1) := dk_191 (dk_at dksX1_factOf_4 20 rfl rfl)
abbrev cX1_trust : ByteArray := prog_1_method_23_code
def yX1_trust : MethodName := ⟨RX1, "trust", "(I)F"⟩
def dkwX1_trust_0 : List UInt8 := [42, 180, 0, 52, 27, 182, 0, 185, 180, 0, 215, 174]
abbrev dktX1_trust_0 : List UInt8 := dkwX1_trust_0 ++ []
theorem dksX1_trust_0 : cX1_trust.data.toList.drop 0 = dktX1_trust_0 := by decide +kernel
theorem dX1_trust_0 : decode cX1_trust 0 = .ok (.aload_n 0, 1) := dk_42 (dk_at dksX1_trust_0 0 rfl rfl)
theorem dX1_trust_1 : decode cX1_trust 1 = .ok (.getfield 52, 3) := dk_180 0 52 (dk_at dksX1_trust_0 1 rfl rfl)
theorem dX1_trust_4 : decode cX1_trust 4 = .ok (.iload_n 1, 1) := dk_27 (dk_at dksX1_trust_0 4 rfl rfl)
theorem dX1_trust_5 : decode cX1_trust 5 = .ok (.invokevirtual 185, 3) := dk_182 0 185 (dk_at dksX1_trust_0 5 rfl rfl)
theorem dX1_trust_8 : decode cX1_trust 8 = .ok (.getfield 215, 3) := dk_180 0 215 (dk_at dksX1_trust_0 8 rfl rfl)
theorem dX1_trust_11 : decode cX1_trust 11 = .ok (.freturn, 1) := dk_174 (dk_at dksX1_trust_0 11 rfl rfl)
abbrev cX1_trustBits : ByteArray := prog_1_method_24_code
def yX1_trustBits : MethodName := ⟨RX1, "trustBits", "(I)I"⟩
def dkwX1_trustBits_0 : List UInt8 := [42, 180, 0, 52, 27, 182, 0, 185, 180, 0, 215, 184, 0, 219, 172]
abbrev dktX1_trustBits_0 : List UInt8 := dkwX1_trustBits_0 ++ []
theorem dksX1_trustBits_0 : cX1_trustBits.data.toList.drop 0 = dktX1_trustBits_0 := by decide +kernel
theorem dX1_trustBits_0 : decode cX1_trustBits 0 = .ok (.aload_n 0, 1) := dk_42 (dk_at dksX1_trustBits_0 0 rfl rfl)
theorem dX1_trustBits_1 : decode cX1_trustBits 1 = .ok (.getfield 52, 3) := dk_180 0 52 (dk_at dksX1_trustBits_0 1 rfl rfl)
theorem dX1_trustBits_4 : decode cX1_trustBits 4 = .ok (.iload_n 1, 1) := dk_27 (dk_at dksX1_trustBits_0 4 rfl rfl)
theorem dX1_trustBits_5 : decode cX1_trustBits 5 = .ok (.invokevirtual 185, 3) := dk_182 0 185 (dk_at dksX1_trustBits_0 5 rfl rfl)
theorem dX1_trustBits_8 : decode cX1_trustBits 8 = .ok (.getfield 215, 3) := dk_180 0 215 (dk_at dksX1_trustBits_0 8 rfl rfl)
theorem dX1_trustBits_11 : decode cX1_trustBits 11 = .ok (.invokestatic 219, 3) := dk_184 0 219 (dk_at dksX1_trustBits_0 11 rfl rfl)
theorem dX1_trustBits_14 : decode cX1_trustBits 14 = .ok (.ireturn, 1) := dk_172 (dk_at dksX1_trustBits_0 14 rfl rfl)
abbrev cX1_trusted : ByteArray := prog_1_method_25_code
def yX1_trusted : MethodName := ⟨RX1, "trusted", "(I)I"⟩
def dkwX1_trusted_0 : List UInt8 := [42, 180, 0, 52, 27, 182, 0, 225, 184, 0, 173, 172]
abbrev dktX1_trusted_0 : List UInt8 := dkwX1_trusted_0 ++ []
theorem dksX1_trusted_0 : cX1_trusted.data.toList.drop 0 = dktX1_trusted_0 := by decide +kernel
theorem dX1_trusted_0 : decode cX1_trusted 0 = .ok (.aload_n 0, 1) := dk_42 (dk_at dksX1_trusted_0 0 rfl rfl)
theorem dX1_trusted_1 : decode cX1_trusted 1 = .ok (.getfield 52, 3) := dk_180 0 52 (dk_at dksX1_trusted_0 1 rfl rfl)
theorem dX1_trusted_4 : decode cX1_trusted 4 = .ok (.iload_n 1, 1) := dk_27 (dk_at dksX1_trusted_0 4 rfl rfl)
theorem dX1_trusted_5 : decode cX1_trusted 5 = .ok (.invokevirtual 225, 3) := dk_182 0 225 (dk_at dksX1_trusted_0 5 rfl rfl)
theorem dX1_trusted_8 : decode cX1_trusted 8 = .ok (.invokestatic 173, 3) := dk_184 0 173 (dk_at dksX1_trusted_0 8 rfl rfl)
theorem dX1_trusted_11 : decode cX1_trusted 11 = .ok (.ireturn, 1) := dk_172 (dk_at dksX1_trusted_0 11 rfl rfl)
abbrev cX1_agenda : ByteArray := prog_1_method_27_code
def yX1_agenda : MethodName := ⟨RX1, "agenda", "(II)I"⟩
def dkwX1_agenda_1 : List UInt8 := [180, 0, 52, 45, 28, 182, 0, 238, 172]
abbrev dktX1_agenda_1 : List UInt8 := dkwX1_agenda_1 ++ []
def dkwX1_agenda_0 : List UInt8 := [42, 180, 0, 52, 27, 182, 0, 234, 78, 45, 198, 0, 7, 4, 167, 0, 4, 3, 184, 0, 160, 42]
abbrev dktX1_agenda_0 : List UInt8 := dkwX1_agenda_0 ++ dktX1_agenda_1
theorem dksX1_agenda_0 : cX1_agenda.data.toList.drop 0 = dktX1_agenda_0 := by decide +kernel
theorem dksX1_agenda_1 : cX1_agenda.data.toList.drop 22 = dktX1_agenda_1 := dk_seg dksX1_agenda_0 22 rfl rfl
theorem dX1_agenda_0 : decode cX1_agenda 0 = .ok (.aload_n 0, 1) := dk_42 (dk_at dksX1_agenda_0 0 rfl rfl)
theorem dX1_agenda_1 : decode cX1_agenda 1 = .ok (.getfield 52, 3) := dk_180 0 52 (dk_at dksX1_agenda_0 1 rfl rfl)
theorem dX1_agenda_4 : decode cX1_agenda 4 = .ok (.iload_n 1, 1) := dk_27 (dk_at dksX1_agenda_0 4 rfl rfl)
theorem dX1_agenda_5 : decode cX1_agenda 5 = .ok (.invokevirtual 234, 3) := dk_182 0 234 (dk_at dksX1_agenda_0 5 rfl rfl)
theorem dX1_agenda_8 : decode cX1_agenda 8 = .ok (.astore_n 3, 1) := dk_78 (dk_at dksX1_agenda_0 8 rfl rfl)
theorem dX1_agenda_9 : decode cX1_agenda 9 = .ok (.aload_n 3, 1) := dk_45 (dk_at dksX1_agenda_0 9 rfl rfl)
theorem dX1_agenda_10 : decode cX1_agenda 10 = .ok (.ifnull 7, 3) := dk_198 0 7 (dk_at dksX1_agenda_0 10 rfl rfl)
theorem dX1_agenda_13 : decode cX1_agenda 13 = .ok (.iconst 1, 1) := dk_4 (dk_at dksX1_agenda_0 13 rfl rfl)
theorem dX1_agenda_14 : decode cX1_agenda 14 = .ok (.goto 4, 3) := dk_167 0 4 (dk_at dksX1_agenda_0 14 rfl rfl)
theorem dX1_agenda_17 : decode cX1_agenda 17 = .ok (.iconst 0, 1) := dk_3 (dk_at dksX1_agenda_0 17 rfl rfl)
theorem dX1_agenda_18 : decode cX1_agenda 18 = .ok (.invokestatic 160, 3) := dk_184 0 160 (dk_at dksX1_agenda_0 18 rfl rfl)
theorem dX1_agenda_21 : decode cX1_agenda 21 = .ok (.aload_n 0, 1) := dk_42 (dk_at dksX1_agenda_0 21 rfl rfl)
theorem dX1_agenda_22 : decode cX1_agenda 22 = .ok (.getfield 52, 3) := dk_180 0 52 (dk_at dksX1_agenda_1 0 rfl rfl)
theorem dX1_agenda_25 : decode cX1_agenda 25 = .ok (.aload_n 3, 1) := dk_45 (dk_at dksX1_agenda_1 3 rfl rfl)
theorem dX1_agenda_26 : decode cX1_agenda 26 = .ok (.iload_n 2, 1) := dk_28 (dk_at dksX1_agenda_1 4 rfl rfl)
theorem dX1_agenda_27 : decode cX1_agenda 27 = .ok (.invokevirtual 238, 3) := dk_182 0 238 (dk_at dksX1_agenda_1 5 rfl rfl)
theorem dX1_agenda_30 : decode cX1_agenda 30 = .ok (.ireturn, 1) := dk_172 (dk_at dksX1_agenda_1 8 rfl rfl)
abbrev cX1_matches : ByteArray := prog_1_method_28_code
def yX1_matches : MethodName := ⟨RX1, "matches", "(I)I"⟩
def dkwX1_matches_0 : List UInt8 := [42, 180, 0, 52, 42, 180, 0, 52, 27, 182, 0, 242, 182, 0, 246, 172]
abbrev dktX1_matches_0 : List UInt8 := dkwX1_matches_0 ++ []
theorem dksX1_matches_0 : cX1_matches.data.toList.drop 0 = dktX1_matches_0 := by decide +kernel
theorem dX1_matches_0 : decode cX1_matches 0 = .ok (.aload_n 0, 1) := dk_42 (dk_at dksX1_matches_0 0 rfl rfl)
theorem dX1_matches_1 : decode cX1_matches 1 = .ok (.getfield 52, 3) := dk_180 0 52 (dk_at dksX1_matches_0 1 rfl rfl)
theorem dX1_matches_4 : decode cX1_matches 4 = .ok (.aload_n 0, 1) := dk_42 (dk_at dksX1_matches_0 4 rfl rfl)
theorem dX1_matches_5 : decode cX1_matches 5 = .ok (.getfield 52, 3) := dk_180 0 52 (dk_at dksX1_matches_0 5 rfl rfl)
theorem dX1_matches_8 : decode cX1_matches 8 = .ok (.iload_n 1, 1) := dk_27 (dk_at dksX1_matches_0 8 rfl rfl)
theorem dX1_matches_9 : decode cX1_matches 9 = .ok (.invokevirtual 242, 3) := dk_182 0 242 (dk_at dksX1_matches_0 9 rfl rfl)
theorem dX1_matches_12 : decode cX1_matches 12 = .ok (.invokevirtual 246, 3) := dk_182 0 246 (dk_at dksX1_matches_0 12 rfl rfl)
theorem dX1_matches_15 : decode cX1_matches 15 = .ok (.ireturn, 1) := dk_172 (dk_at dksX1_matches_0 15 rfl rfl)
abbrev cX1_checkIndex : ByteArray := prog_1_method_3_code
def yX1_checkIndex : MethodName := ⟨RX1, "checkIndex", "(Z)V"⟩
def dkwX1_checkIndex_0 : List UInt8 := [26, 154, 0, 11, 187, 0, 7, 89, 183, 0, 9, 191, 177]
abbrev dktX1_checkIndex_0 : List UInt8 := dkwX1_checkIndex_0 ++ []
theorem dksX1_checkIndex_0 : cX1_checkIndex.data.toList.drop 0 = dktX1_checkIndex_0 := by decide +kernel
theorem dX1_checkIndex_0 : decode cX1_checkIndex 0 = .ok (.iload_n 0, 1) := dk_26 (dk_at dksX1_checkIndex_0 0 rfl rfl)
theorem dX1_checkIndex_1 : decode cX1_checkIndex 1 = .ok (.ifCond .ne 11, 3) := dk_154 0 11 (dk_at dksX1_checkIndex_0 1 rfl rfl)
theorem dX1_checkIndex_4 : decode cX1_checkIndex 4 = .ok (.new 7, 3) := dk_187 0 7 (dk_at dksX1_checkIndex_0 4 rfl rfl)
theorem dX1_checkIndex_7 : decode cX1_checkIndex 7 = .ok (.dup, 1) := dk_89 (dk_at dksX1_checkIndex_0 7 rfl rfl)
theorem dX1_checkIndex_8 : decode cX1_checkIndex 8 = .ok (.invokespecial 9, 3) := dk_183 0 9 (dk_at dksX1_checkIndex_0 8 rfl rfl)
theorem dX1_checkIndex_11 : decode cX1_checkIndex 11 = .ok (.athrow, 1) := dk_191 (dk_at dksX1_checkIndex_0 11 rfl rfl)
theorem dX1_checkIndex_12 : decode cX1_checkIndex 12 = .ok (.return_, 1) := dk_177 (dk_at dksX1_checkIndex_0 12 rfl rfl)
abbrev cX1_fire : ByteArray := prog_1_method_29_code
def yX1_fire : MethodName := ⟨RX1, "fire", "()I"⟩
def dkwX1_fire_0 : List UInt8 := [42, 187, 0, 102, 89, 16, 33, 3, 188, 10, 183, 0, 157, 182, 0, 153, 172]
abbrev dktX1_fire_0 : List UInt8 := dkwX1_fire_0 ++ []
theorem dksX1_fire_0 : cX1_fire.data.toList.drop 0 = dktX1_fire_0 := by decide +kernel
theorem dX1_fire_0 : decode cX1_fire 0 = .ok (.aload_n 0, 1) := dk_42 (dk_at dksX1_fire_0 0 rfl rfl)
theorem dX1_fire_1 : decode cX1_fire 1 = .ok (.new 102, 3) := dk_187 0 102 (dk_at dksX1_fire_0 1 rfl rfl)
theorem dX1_fire_4 : decode cX1_fire 4 = .ok (.dup, 1) := dk_89 (dk_at dksX1_fire_0 4 rfl rfl)
theorem dX1_fire_5 : decode cX1_fire 5 = .ok (.bipush 33, 2) := dk_16 33 (dk_at dksX1_fire_0 5 rfl rfl)
theorem dX1_fire_7 : decode cX1_fire 7 = .ok (.iconst 0, 1) := dk_3 (dk_at dksX1_fire_0 7 rfl rfl)
theorem dX1_fire_8 : decode cX1_fire 8 = .ok (.newarray .int, 2) := dk_188_10 (dk_at dksX1_fire_0 8 rfl rfl)
theorem dX1_fire_10 : decode cX1_fire 10 = .ok (.invokespecial 157, 3) := dk_183 0 157 (dk_at dksX1_fire_0 10 rfl rfl)
theorem dX1_fire_13 : decode cX1_fire 13 = .ok (.invokevirtual 153, 3) := dk_182 0 153 (dk_at dksX1_fire_0 13 rfl rfl)
theorem dX1_fire_16 : decode cX1_fire 16 = .ok (.ireturn, 1) := dk_172 (dk_at dksX1_fire_0 16 rfl rfl)
abbrev cX1_run : ByteArray := prog_1_method_30_code
def yX1_run : MethodName := ⟨RX1, "run", "(I)I"⟩
def dkwX1_run_0 : List UInt8 := [42, 187, 0, 102, 89, 16, 102, 4, 188, 10, 89, 3, 27, 79, 183, 0, 157, 182, 0, 153, 172]
abbrev dktX1_run_0 : List UInt8 := dkwX1_run_0 ++ []
theorem dksX1_run_0 : cX1_run.data.toList.drop 0 = dktX1_run_0 := by decide +kernel
theorem dX1_run_0 : decode cX1_run 0 = .ok (.aload_n 0, 1) := dk_42 (dk_at dksX1_run_0 0 rfl rfl)
theorem dX1_run_1 : decode cX1_run 1 = .ok (.new 102, 3) := dk_187 0 102 (dk_at dksX1_run_0 1 rfl rfl)
theorem dX1_run_4 : decode cX1_run 4 = .ok (.dup, 1) := dk_89 (dk_at dksX1_run_0 4 rfl rfl)
theorem dX1_run_5 : decode cX1_run 5 = .ok (.bipush 102, 2) := dk_16 102 (dk_at dksX1_run_0 5 rfl rfl)
theorem dX1_run_7 : decode cX1_run 7 = .ok (.iconst 1, 1) := dk_4 (dk_at dksX1_run_0 7 rfl rfl)
theorem dX1_run_8 : decode cX1_run 8 = .ok (.newarray .int, 2) := dk_188_10 (dk_at dksX1_run_0 8 rfl rfl)
theorem dX1_run_10 : decode cX1_run 10 = .ok (.dup, 1) := dk_89 (dk_at dksX1_run_0 10 rfl rfl)
theorem dX1_run_11 : decode cX1_run 11 = .ok (.iconst 0, 1) := dk_3 (dk_at dksX1_run_0 11 rfl rfl)
theorem dX1_run_12 : decode cX1_run 12 = .ok (.iload_n 1, 1) := dk_27 (dk_at dksX1_run_0 12 rfl rfl)
theorem dX1_run_13 : decode cX1_run 13 = .ok (.iastore, 1) := dk_79 (dk_at dksX1_run_0 13 rfl rfl)
theorem dX1_run_14 : decode cX1_run 14 = .ok (.invokespecial 157, 3) := dk_183 0 157 (dk_at dksX1_run_0 14 rfl rfl)
theorem dX1_run_17 : decode cX1_run 17 = .ok (.invokevirtual 153, 3) := dk_182 0 153 (dk_at dksX1_run_0 17 rfl rfl)
theorem dX1_run_20 : decode cX1_run 20 = .ok (.ireturn, 1) := dk_172 (dk_at dksX1_run_0 20 rfl rfl)
abbrev cX1_quietIn : ByteArray := prog_1_method_31_code
def yX1_quietIn : MethodName := ⟨RX1, "quietIn", "()I"⟩
def dkwX1_quietIn_0 : List UInt8 := [42, 180, 0, 52, 182, 0, 250, 60, 27, 2, 159, 0, 7, 4, 167, 0, 4, 3, 184, 0, 160, 27, 172]
abbrev dktX1_quietIn_0 : List UInt8 := dkwX1_quietIn_0 ++ []
theorem dksX1_quietIn_0 : cX1_quietIn.data.toList.drop 0 = dktX1_quietIn_0 := by decide +kernel
theorem dX1_quietIn_0 : decode cX1_quietIn 0 = .ok (.aload_n 0, 1) := dk_42 (dk_at dksX1_quietIn_0 0 rfl rfl)
theorem dX1_quietIn_1 : decode cX1_quietIn 1 = .ok (.getfield 52, 3) := dk_180 0 52 (dk_at dksX1_quietIn_0 1 rfl rfl)
theorem dX1_quietIn_4 : decode cX1_quietIn 4 = .ok (.invokevirtual 250, 3) := dk_182 0 250 (dk_at dksX1_quietIn_0 4 rfl rfl)
theorem dX1_quietIn_7 : decode cX1_quietIn 7 = .ok (.istore_n 1, 1) := dk_60 (dk_at dksX1_quietIn_0 7 rfl rfl)
theorem dX1_quietIn_8 : decode cX1_quietIn 8 = .ok (.iload_n 1, 1) := dk_27 (dk_at dksX1_quietIn_0 8 rfl rfl)
theorem dX1_quietIn_9 : decode cX1_quietIn 9 = .ok (.iconst (-1), 1) := dk_2 (dk_at dksX1_quietIn_0 9 rfl rfl)
theorem dX1_quietIn_10 : decode cX1_quietIn 10 = .ok (.if_icmp .eq 7, 3) := dk_159 0 7 (dk_at dksX1_quietIn_0 10 rfl rfl)
theorem dX1_quietIn_13 : decode cX1_quietIn 13 = .ok (.iconst 1, 1) := dk_4 (dk_at dksX1_quietIn_0 13 rfl rfl)
theorem dX1_quietIn_14 : decode cX1_quietIn 14 = .ok (.goto 4, 3) := dk_167 0 4 (dk_at dksX1_quietIn_0 14 rfl rfl)
theorem dX1_quietIn_17 : decode cX1_quietIn 17 = .ok (.iconst 0, 1) := dk_3 (dk_at dksX1_quietIn_0 17 rfl rfl)
theorem dX1_quietIn_18 : decode cX1_quietIn 18 = .ok (.invokestatic 160, 3) := dk_184 0 160 (dk_at dksX1_quietIn_0 18 rfl rfl)
theorem dX1_quietIn_21 : decode cX1_quietIn 21 = .ok (.iload_n 1, 1) := dk_27 (dk_at dksX1_quietIn_0 21 rfl rfl)
theorem dX1_quietIn_22 : decode cX1_quietIn 22 = .ok (.ireturn, 1) := dk_172 (dk_at dksX1_quietIn_0 22 rfl rfl)
abbrev cX1_why : ByteArray := prog_1_method_32_code
def yX1_why : MethodName := ⟨RX1, "why", "(III)I"⟩
def dkwX1_why_2 : List UInt8 := [182, 0, 238, 172]
abbrev dktX1_why_2 : List UInt8 := dkwX1_why_2 ++ []
def dkwX1_why_1 : List UInt8 := [184, 0, 177, 184, 0, 160, 42, 180, 0, 52, 25, 4, 180, 0, 203, 28, 182, 0, 181, 192, 0, 35, 29]
abbrev dktX1_why_1 : List UInt8 := dkwX1_why_1 ++ dktX1_why_2
def dkwX1_why_0 : List UInt8 := [42, 180, 0, 52, 27, 182, 0, 185, 58, 4, 28, 133, 9, 25, 4, 180, 0, 203, 182, 0, 129, 4, 100, 133]
abbrev dktX1_why_0 : List UInt8 := dkwX1_why_0 ++ dktX1_why_1
theorem dksX1_why_0 : cX1_why.data.toList.drop 0 = dktX1_why_0 := by decide +kernel
theorem dksX1_why_1 : cX1_why.data.toList.drop 24 = dktX1_why_1 := dk_seg dksX1_why_0 24 rfl rfl
theorem dksX1_why_2 : cX1_why.data.toList.drop 47 = dktX1_why_2 := dk_seg dksX1_why_1 23 rfl rfl
theorem dX1_why_0 : decode cX1_why 0 = .ok (.aload_n 0, 1) := dk_42 (dk_at dksX1_why_0 0 rfl rfl)
theorem dX1_why_1 : decode cX1_why 1 = .ok (.getfield 52, 3) := dk_180 0 52 (dk_at dksX1_why_0 1 rfl rfl)
theorem dX1_why_4 : decode cX1_why 4 = .ok (.iload_n 1, 1) := dk_27 (dk_at dksX1_why_0 4 rfl rfl)
theorem dX1_why_5 : decode cX1_why 5 = .ok (.invokevirtual 185, 3) := dk_182 0 185 (dk_at dksX1_why_0 5 rfl rfl)
theorem dX1_why_8 : decode cX1_why 8 = .ok (.astore 4, 2) := dk_58 4 (dk_at dksX1_why_0 8 rfl rfl)
theorem dX1_why_10 : decode cX1_why 10 = .ok (.iload_n 2, 1) := dk_28 (dk_at dksX1_why_0 10 rfl rfl)
theorem dX1_why_11 : decode cX1_why 11 = .ok (.i2l, 1) := dk_133 (dk_at dksX1_why_0 11 rfl rfl)
theorem dX1_why_12 : decode cX1_why 12 = .ok (.lconst 0, 1) := dk_9 (dk_at dksX1_why_0 12 rfl rfl)
theorem dX1_why_13 : decode cX1_why 13 = .ok (.aload 4, 2) := dk_25 4 (dk_at dksX1_why_0 13 rfl rfl)
theorem dX1_why_15 : decode cX1_why 15 = .ok (.getfield 203, 3) := dk_180 0 203 (dk_at dksX1_why_0 15 rfl rfl)
theorem dX1_why_18 : decode cX1_why 18 = .ok (.invokevirtual 129, 3) := dk_182 0 129 (dk_at dksX1_why_0 18 rfl rfl)
theorem dX1_why_21 : decode cX1_why 21 = .ok (.iconst 1, 1) := dk_4 (dk_at dksX1_why_0 21 rfl rfl)
theorem dX1_why_22 : decode cX1_why 22 = .ok (.isub, 1) := dk_100 (dk_at dksX1_why_0 22 rfl rfl)
theorem dX1_why_23 : decode cX1_why 23 = .ok (.i2l, 1) := dk_133 (dk_at dksX1_why_0 23 rfl rfl)
theorem dX1_why_24 : decode cX1_why 24 = .ok (.invokestatic 177, 3) := dk_184 0 177 (dk_at dksX1_why_1 0 rfl rfl)
theorem dX1_why_27 : decode cX1_why 27 = .ok (.invokestatic 160, 3) := dk_184 0 160 (dk_at dksX1_why_1 3 rfl rfl)
theorem dX1_why_30 : decode cX1_why 30 = .ok (.aload_n 0, 1) := dk_42 (dk_at dksX1_why_1 6 rfl rfl)
theorem dX1_why_31 : decode cX1_why 31 = .ok (.getfield 52, 3) := dk_180 0 52 (dk_at dksX1_why_1 7 rfl rfl)
theorem dX1_why_34 : decode cX1_why 34 = .ok (.aload 4, 2) := dk_25 4 (dk_at dksX1_why_1 10 rfl rfl)
theorem dX1_why_36 : decode cX1_why 36 = .ok (.getfield 203, 3) := dk_180 0 203 (dk_at dksX1_why_1 12 rfl rfl)
theorem dX1_why_39 : decode cX1_why 39 = .ok (.iload_n 2, 1) := dk_28 (dk_at dksX1_why_1 15 rfl rfl)
theorem dX1_why_40 : decode cX1_why 40 = .ok (.invokevirtual 181, 3) := dk_182 0 181 (dk_at dksX1_why_1 16 rfl rfl)
theorem dX1_why_43 : decode cX1_why 43 = .ok (.checkcast 35, 3) := dk_192 0 35 (dk_at dksX1_why_1 19 rfl rfl)
theorem dX1_why_46 : decode cX1_why 46 = .ok (.iload_n 3, 1) := dk_29 (dk_at dksX1_why_1 22 rfl rfl)
theorem dX1_why_47 : decode cX1_why 47 = .ok (.invokevirtual 238, 3) := dk_182 0 238 (dk_at dksX1_why_2 0 rfl rfl)
theorem dX1_why_50 : decode cX1_why 50 = .ok (.ireturn, 1) := dk_172 (dk_at dksX1_why_2 3 rfl rfl)
abbrev cX1_wouldGo : ByteArray := prog_1_method_33_code
def yX1_wouldGo : MethodName := ⟨RX1, "wouldGo", "(I)I"⟩
def dkwX1_wouldGo_0 : List UInt8 := [42, 180, 0, 52, 27, 182, 0, 253, 172]
abbrev dktX1_wouldGo_0 : List UInt8 := dkwX1_wouldGo_0 ++ []
theorem dksX1_wouldGo_0 : cX1_wouldGo.data.toList.drop 0 = dktX1_wouldGo_0 := by decide +kernel
theorem dX1_wouldGo_0 : decode cX1_wouldGo 0 = .ok (.aload_n 0, 1) := dk_42 (dk_at dksX1_wouldGo_0 0 rfl rfl)
theorem dX1_wouldGo_1 : decode cX1_wouldGo 1 = .ok (.getfield 52, 3) := dk_180 0 52 (dk_at dksX1_wouldGo_0 1 rfl rfl)
theorem dX1_wouldGo_4 : decode cX1_wouldGo 4 = .ok (.iload_n 1, 1) := dk_27 (dk_at dksX1_wouldGo_0 4 rfl rfl)
theorem dX1_wouldGo_5 : decode cX1_wouldGo 5 = .ok (.invokevirtual 253, 3) := dk_182 0 253 (dk_at dksX1_wouldGo_0 5 rfl rfl)
theorem dX1_wouldGo_8 : decode cX1_wouldGo 8 = .ok (.ireturn, 1) := dk_172 (dk_at dksX1_wouldGo_0 8 rfl rfl)
abbrev cX1_line : ByteArray := prog_1_method_35_code
def yX1_line : MethodName := ⟨RX1, "line", "(I)I"⟩
def dkwX1_line_0 : List UInt8 := [42, 42, 180, 0, 52, 27, 182, 0, 242, 182, 1, 4, 181, 0, 78, 42, 180, 0, 78, 182, 1, 10, 172]
abbrev dktX1_line_0 : List UInt8 := dkwX1_line_0 ++ []
theorem dksX1_line_0 : cX1_line.data.toList.drop 0 = dktX1_line_0 := by decide +kernel
theorem dX1_line_0 : decode cX1_line 0 = .ok (.aload_n 0, 1) := dk_42 (dk_at dksX1_line_0 0 rfl rfl)
theorem dX1_line_1 : decode cX1_line 1 = .ok (.aload_n 0, 1) := dk_42 (dk_at dksX1_line_0 1 rfl rfl)
theorem dX1_line_2 : decode cX1_line 2 = .ok (.getfield 52, 3) := dk_180 0 52 (dk_at dksX1_line_0 2 rfl rfl)
theorem dX1_line_5 : decode cX1_line 5 = .ok (.iload_n 1, 1) := dk_27 (dk_at dksX1_line_0 5 rfl rfl)
theorem dX1_line_6 : decode cX1_line 6 = .ok (.invokevirtual 242, 3) := dk_182 0 242 (dk_at dksX1_line_0 6 rfl rfl)
theorem dX1_line_9 : decode cX1_line 9 = .ok (.invokevirtual 260, 3) := dk_182 1 4 (dk_at dksX1_line_0 9 rfl rfl)
theorem dX1_line_12 : decode cX1_line 12 = .ok (.putfield 78, 3) := dk_181 0 78 (dk_at dksX1_line_0 12 rfl rfl)
theorem dX1_line_15 : decode cX1_line 15 = .ok (.aload_n 0, 1) := dk_42 (dk_at dksX1_line_0 15 rfl rfl)
theorem dX1_line_16 : decode cX1_line 16 = .ok (.getfield 78, 3) := dk_180 0 78 (dk_at dksX1_line_0 16 rfl rfl)
theorem dX1_line_19 : decode cX1_line 19 = .ok (.invokevirtual 266, 3) := dk_182 1 10 (dk_at dksX1_line_0 19 rfl rfl)
theorem dX1_line_22 : decode cX1_line 22 = .ok (.ireturn, 1) := dk_172 (dk_at dksX1_line_0 22 rfl rfl)
abbrev cX1_factLine : ByteArray := prog_1_method_36_code
def yX1_factLine : MethodName := ⟨RX1, "factLine", "(I)I"⟩
def dkwX1_factLine_1 : List UInt8 := [182, 1, 10, 172]
abbrev dktX1_factLine_1 : List UInt8 := dkwX1_factLine_1 ++ []
def dkwX1_factLine_0 : List UInt8 := [42, 42, 180, 0, 52, 42, 180, 0, 52, 27, 182, 0, 185, 182, 1, 15, 181, 0, 78, 42, 180, 0, 78]
abbrev dktX1_factLine_0 : List UInt8 := dkwX1_factLine_0 ++ dktX1_factLine_1
theorem dksX1_factLine_0 : cX1_factLine.data.toList.drop 0 = dktX1_factLine_0 := by decide +kernel
theorem dksX1_factLine_1 : cX1_factLine.data.toList.drop 23 = dktX1_factLine_1 := dk_seg dksX1_factLine_0 23 rfl rfl
theorem dX1_factLine_0 : decode cX1_factLine 0 = .ok (.aload_n 0, 1) := dk_42 (dk_at dksX1_factLine_0 0 rfl rfl)
theorem dX1_factLine_1 : decode cX1_factLine 1 = .ok (.aload_n 0, 1) := dk_42 (dk_at dksX1_factLine_0 1 rfl rfl)
theorem dX1_factLine_2 : decode cX1_factLine 2 = .ok (.getfield 52, 3) := dk_180 0 52 (dk_at dksX1_factLine_0 2 rfl rfl)
theorem dX1_factLine_5 : decode cX1_factLine 5 = .ok (.aload_n 0, 1) := dk_42 (dk_at dksX1_factLine_0 5 rfl rfl)
theorem dX1_factLine_6 : decode cX1_factLine 6 = .ok (.getfield 52, 3) := dk_180 0 52 (dk_at dksX1_factLine_0 6 rfl rfl)
theorem dX1_factLine_9 : decode cX1_factLine 9 = .ok (.iload_n 1, 1) := dk_27 (dk_at dksX1_factLine_0 9 rfl rfl)
theorem dX1_factLine_10 : decode cX1_factLine 10 = .ok (.invokevirtual 185, 3) := dk_182 0 185 (dk_at dksX1_factLine_0 10 rfl rfl)
theorem dX1_factLine_13 : decode cX1_factLine 13 = .ok (.invokevirtual 271, 3) := dk_182 1 15 (dk_at dksX1_factLine_0 13 rfl rfl)
theorem dX1_factLine_16 : decode cX1_factLine 16 = .ok (.putfield 78, 3) := dk_181 0 78 (dk_at dksX1_factLine_0 16 rfl rfl)
theorem dX1_factLine_19 : decode cX1_factLine 19 = .ok (.aload_n 0, 1) := dk_42 (dk_at dksX1_factLine_0 19 rfl rfl)
theorem dX1_factLine_20 : decode cX1_factLine 20 = .ok (.getfield 78, 3) := dk_180 0 78 (dk_at dksX1_factLine_0 20 rfl rfl)
theorem dX1_factLine_23 : decode cX1_factLine 23 = .ok (.invokevirtual 266, 3) := dk_182 1 10 (dk_at dksX1_factLine_1 0 rfl rfl)
theorem dX1_factLine_26 : decode cX1_factLine 26 = .ok (.ireturn, 1) := dk_172 (dk_at dksX1_factLine_1 3 rfl rfl)
abbrev cX1_character : ByteArray := prog_1_method_37_code
def yX1_character : MethodName := ⟨RX1, "character", "(I)C"⟩
def dkwX1_character_1 : List UInt8 := [182, 1, 21, 172]
abbrev dktX1_character_1 : List UInt8 := dkwX1_character_1 ++ []
def dkwX1_character_0 : List UInt8 := [27, 133, 9, 42, 180, 0, 78, 182, 1, 10, 4, 100, 133, 184, 0, 177, 184, 1, 18, 42, 180, 0, 78, 27]
abbrev dktX1_character_0 : List UInt8 := dkwX1_character_0 ++ dktX1_character_1
theorem dksX1_character_0 : cX1_character.data.toList.drop 0 = dktX1_character_0 := by decide +kernel
theorem dksX1_character_1 : cX1_character.data.toList.drop 24 = dktX1_character_1 := dk_seg dksX1_character_0 24 rfl rfl
theorem dX1_character_0 : decode cX1_character 0 = .ok (.iload_n 1, 1) := dk_27 (dk_at dksX1_character_0 0 rfl rfl)
theorem dX1_character_1 : decode cX1_character 1 = .ok (.i2l, 1) := dk_133 (dk_at dksX1_character_0 1 rfl rfl)
theorem dX1_character_2 : decode cX1_character 2 = .ok (.lconst 0, 1) := dk_9 (dk_at dksX1_character_0 2 rfl rfl)
theorem dX1_character_3 : decode cX1_character 3 = .ok (.aload_n 0, 1) := dk_42 (dk_at dksX1_character_0 3 rfl rfl)
theorem dX1_character_4 : decode cX1_character 4 = .ok (.getfield 78, 3) := dk_180 0 78 (dk_at dksX1_character_0 4 rfl rfl)
theorem dX1_character_7 : decode cX1_character 7 = .ok (.invokevirtual 266, 3) := dk_182 1 10 (dk_at dksX1_character_0 7 rfl rfl)
theorem dX1_character_10 : decode cX1_character 10 = .ok (.iconst 1, 1) := dk_4 (dk_at dksX1_character_0 10 rfl rfl)
theorem dX1_character_11 : decode cX1_character 11 = .ok (.isub, 1) := dk_100 (dk_at dksX1_character_0 11 rfl rfl)
theorem dX1_character_12 : decode cX1_character 12 = .ok (.i2l, 1) := dk_133 (dk_at dksX1_character_0 12 rfl rfl)
theorem dX1_character_13 : decode cX1_character 13 = .ok (.invokestatic 177, 3) := dk_184 0 177 (dk_at dksX1_character_0 13 rfl rfl)
theorem dX1_character_16 : decode cX1_character 16 = .ok (.invokestatic 274, 3) := dk_184 1 18 (dk_at dksX1_character_0 16 rfl rfl)
theorem dX1_character_19 : decode cX1_character 19 = .ok (.aload_n 0, 1) := dk_42 (dk_at dksX1_character_0 19 rfl rfl)
theorem dX1_character_20 : decode cX1_character 20 = .ok (.getfield 78, 3) := dk_180 0 78 (dk_at dksX1_character_0 20 rfl rfl)
theorem dX1_character_23 : decode cX1_character 23 = .ok (.iload_n 1, 1) := dk_27 (dk_at dksX1_character_0 23 rfl rfl)
theorem dX1_character_24 : decode cX1_character 24 = .ok (.invokevirtual 277, 3) := dk_182 1 21 (dk_at dksX1_character_1 0 rfl rfl)
theorem dX1_character_27 : decode cX1_character 27 = .ok (.ireturn, 1) := dk_172 (dk_at dksX1_character_1 3 rfl rfl)
abbrev cX1_refusal : ByteArray := prog_1_method_38_code
def yX1_refusal : MethodName := ⟨RX1, "refusal", "(Z)I"⟩
def dkwX1_refusal_1 : List UInt8 := [180, 1, 28, 167, 0, 10, 42, 180, 0, 109, 180, 1, 31, 172]
abbrev dktX1_refusal_1 : List UInt8 := dkwX1_refusal_1 ++ []
def dkwX1_refusal_0 : List UInt8 := [42, 180, 0, 109, 198, 0, 7, 4, 167, 0, 4, 3, 184, 1, 25, 27, 153, 0, 13, 42, 180, 0, 109]
abbrev dktX1_refusal_0 : List UInt8 := dkwX1_refusal_0 ++ dktX1_refusal_1
theorem dksX1_refusal_0 : cX1_refusal.data.toList.drop 0 = dktX1_refusal_0 := by decide +kernel
theorem dksX1_refusal_1 : cX1_refusal.data.toList.drop 23 = dktX1_refusal_1 := dk_seg dksX1_refusal_0 23 rfl rfl
theorem dX1_refusal_0 : decode cX1_refusal 0 = .ok (.aload_n 0, 1) := dk_42 (dk_at dksX1_refusal_0 0 rfl rfl)
theorem dX1_refusal_1 : decode cX1_refusal 1 = .ok (.getfield 109, 3) := dk_180 0 109 (dk_at dksX1_refusal_0 1 rfl rfl)
theorem dX1_refusal_4 : decode cX1_refusal 4 = .ok (.ifnull 7, 3) := dk_198 0 7 (dk_at dksX1_refusal_0 4 rfl rfl)
theorem dX1_refusal_7 : decode cX1_refusal 7 = .ok (.iconst 1, 1) := dk_4 (dk_at dksX1_refusal_0 7 rfl rfl)
theorem dX1_refusal_8 : decode cX1_refusal 8 = .ok (.goto 4, 3) := dk_167 0 4 (dk_at dksX1_refusal_0 8 rfl rfl)
theorem dX1_refusal_11 : decode cX1_refusal 11 = .ok (.iconst 0, 1) := dk_3 (dk_at dksX1_refusal_0 11 rfl rfl)
theorem dX1_refusal_12 : decode cX1_refusal 12 = .ok (.invokestatic 281, 3) := dk_184 1 25 (dk_at dksX1_refusal_0 12 rfl rfl)
theorem dX1_refusal_15 : decode cX1_refusal 15 = .ok (.iload_n 1, 1) := dk_27 (dk_at dksX1_refusal_0 15 rfl rfl)
theorem dX1_refusal_16 : decode cX1_refusal 16 = .ok (.ifCond .eq 13, 3) := dk_153 0 13 (dk_at dksX1_refusal_0 16 rfl rfl)
theorem dX1_refusal_19 : decode cX1_refusal 19 = .ok (.aload_n 0, 1) := dk_42 (dk_at dksX1_refusal_0 19 rfl rfl)
theorem dX1_refusal_20 : decode cX1_refusal 20 = .ok (.getfield 109, 3) := dk_180 0 109 (dk_at dksX1_refusal_0 20 rfl rfl)
theorem dX1_refusal_23 : decode cX1_refusal 23 = .ok (.getfield 284, 3) := dk_180 1 28 (dk_at dksX1_refusal_1 0 rfl rfl)
theorem dX1_refusal_26 : decode cX1_refusal 26 = .ok (.goto 10, 3) := dk_167 0 10 (dk_at dksX1_refusal_1 3 rfl rfl)
theorem dX1_refusal_29 : decode cX1_refusal 29 = .ok (.aload_n 0, 1) := dk_42 (dk_at dksX1_refusal_1 6 rfl rfl)
theorem dX1_refusal_30 : decode cX1_refusal 30 = .ok (.getfield 109, 3) := dk_180 0 109 (dk_at dksX1_refusal_1 7 rfl rfl)
theorem dX1_refusal_33 : decode cX1_refusal 33 = .ok (.getfield 287, 3) := dk_180 1 31 (dk_at dksX1_refusal_1 10 rfl rfl)
theorem dX1_refusal_36 : decode cX1_refusal 36 = .ok (.ireturn, 1) := dk_172 (dk_at dksX1_refusal_1 13 rfl rfl)
abbrev cX1_checkState : ByteArray := prog_1_method_4_code
def yX1_checkState : MethodName := ⟨RX1, "checkState", "(Z)V"⟩
def dkwX1_checkState_0 : List UInt8 := [26, 154, 0, 11, 187, 0, 10, 89, 183, 0, 12, 191, 177]
abbrev dktX1_checkState_0 : List UInt8 := dkwX1_checkState_0 ++ []
theorem dksX1_checkState_0 : cX1_checkState.data.toList.drop 0 = dktX1_checkState_0 := by decide +kernel
theorem dX1_checkState_0 : decode cX1_checkState 0 = .ok (.iload_n 0, 1) := dk_26 (dk_at dksX1_checkState_0 0 rfl rfl)
theorem dX1_checkState_1 : decode cX1_checkState 1 = .ok (.ifCond .ne 11, 3) := dk_154 0 11 (dk_at dksX1_checkState_0 1 rfl rfl)
theorem dX1_checkState_4 : decode cX1_checkState 4 = .ok (.new 10, 3) := dk_187 0 10 (dk_at dksX1_checkState_0 4 rfl rfl)
theorem dX1_checkState_7 : decode cX1_checkState 7 = .ok (.dup, 1) := dk_89 (dk_at dksX1_checkState_0 7 rfl rfl)
theorem dX1_checkState_8 : decode cX1_checkState 8 = .ok (.invokespecial 12, 3) := dk_183 0 12 (dk_at dksX1_checkState_0 8 rfl rfl)
theorem dX1_checkState_11 : decode cX1_checkState 11 = .ok (.athrow, 1) := dk_191 (dk_at dksX1_checkState_0 11 rfl rfl)
theorem dX1_checkState_12 : decode cX1_checkState 12 = .ok (.return_, 1) := dk_177 (dk_at dksX1_checkState_0 12 rfl rfl)
abbrev cX1_account : ByteArray := prog_1_method_39_code
def yX1_account : MethodName := ⟨RX1, "account", "(I)I"⟩
def dkwX1_account_6 : List UInt8 := [180, 0, 61, 182, 0, 86, 172, 187, 0, 1, 89, 183, 0, 3, 191]
abbrev dktX1_account_6 : List UInt8 := dkwX1_account_6 ++ []
def dkwX1_account_5 : List UInt8 := [180, 0, 52, 182, 1, 50, 172, 42, 180, 0, 52, 180, 1, 53, 172, 42, 180, 0, 72, 182, 1, 56, 172, 42]
abbrev dktX1_account_5 : List UInt8 := dkwX1_account_5 ++ dktX1_account_6
def dkwX1_account_4 : List UInt8 := [180, 0, 52, 182, 0, 231, 172, 42, 180, 0, 52, 182, 1, 45, 172, 42, 180, 0, 52, 180, 1, 47, 172, 42]
abbrev dktX1_account_4 : List UInt8 := dkwX1_account_4 ++ dktX1_account_5
def dkwX1_account_3 : List UInt8 := [182, 1, 37, 172, 42, 180, 0, 52, 180, 1, 39, 182, 0, 129, 172, 42, 180, 0, 52, 180, 1, 42, 172, 42]
abbrev dktX1_account_3 : List UInt8 := dkwX1_account_3 ++ dktX1_account_4
def dkwX1_account_2 : List UInt8 := [42, 180, 0, 52, 180, 0, 125, 182, 0, 129, 172, 42, 180, 0, 52, 180, 1, 34, 172, 42, 180, 0, 52]
abbrev dktX1_account_2 : List UInt8 := dkwX1_account_2 ++ dktX1_account_3
def dkwX1_account_1 : List UInt8 := [170, 0, 0, 0, 0, 0, 165, 0, 0, 0, 0, 0, 0, 0, 11, 0, 0, 0, 63, 0, 0, 0, 74, 0, 0, 0, 82, 0, 0, 0, 90, 0, 0, 0, 101, 0, 0, 0, 109, 0, 0, 0, 117, 0, 0, 0, 125, 0, 0, 0, 133, 0, 0, 0, 141, 0, 0, 0, 149, 0, 0, 0, 157]
abbrev dktX1_account_1 : List UInt8 := dkwX1_account_1 ++ dktX1_account_2
def dkwX1_account_0 : List UInt8 := [27]
abbrev dktX1_account_0 : List UInt8 := dkwX1_account_0 ++ dktX1_account_1
theorem dksX1_account_0 : cX1_account.data.toList.drop 0 = dktX1_account_0 := by decide +kernel
theorem dksX1_account_1 : cX1_account.data.toList.drop 1 = dktX1_account_1 := dk_seg dksX1_account_0 1 rfl rfl
theorem dksX1_account_2 : cX1_account.data.toList.drop 64 = dktX1_account_2 := dk_seg dksX1_account_1 63 rfl rfl
theorem dksX1_account_3 : cX1_account.data.toList.drop 87 = dktX1_account_3 := dk_seg dksX1_account_2 23 rfl rfl
theorem dksX1_account_4 : cX1_account.data.toList.drop 111 = dktX1_account_4 := dk_seg dksX1_account_3 24 rfl rfl
theorem dksX1_account_5 : cX1_account.data.toList.drop 135 = dktX1_account_5 := dk_seg dksX1_account_4 24 rfl rfl
theorem dksX1_account_6 : cX1_account.data.toList.drop 159 = dktX1_account_6 := dk_seg dksX1_account_5 24 rfl rfl
theorem dX1_account_0 : decode cX1_account 0 = .ok (.iload_n 1, 1) := dk_27 (dk_at dksX1_account_0 0 rfl rfl)
theorem dX1_account_1 : decode cX1_account 1 = .ok (.tableswitch 165 0 11 #[63, 74, 82, 90, 101, 109, 117, 125, 133, 141, 149, 157], 63) := by decide +kernel
theorem dX1_account_64 : decode cX1_account 64 = .ok (.aload_n 0, 1) := dk_42 (dk_at dksX1_account_2 0 rfl rfl)
theorem dX1_account_65 : decode cX1_account 65 = .ok (.getfield 52, 3) := dk_180 0 52 (dk_at dksX1_account_2 1 rfl rfl)
theorem dX1_account_68 : decode cX1_account 68 = .ok (.getfield 125, 3) := dk_180 0 125 (dk_at dksX1_account_2 4 rfl rfl)
theorem dX1_account_71 : decode cX1_account 71 = .ok (.invokevirtual 129, 3) := dk_182 0 129 (dk_at dksX1_account_2 7 rfl rfl)
theorem dX1_account_74 : decode cX1_account 74 = .ok (.ireturn, 1) := dk_172 (dk_at dksX1_account_2 10 rfl rfl)
theorem dX1_account_75 : decode cX1_account 75 = .ok (.aload_n 0, 1) := dk_42 (dk_at dksX1_account_2 11 rfl rfl)
theorem dX1_account_76 : decode cX1_account 76 = .ok (.getfield 52, 3) := dk_180 0 52 (dk_at dksX1_account_2 12 rfl rfl)
theorem dX1_account_79 : decode cX1_account 79 = .ok (.getfield 290, 3) := dk_180 1 34 (dk_at dksX1_account_2 15 rfl rfl)
theorem dX1_account_82 : decode cX1_account 82 = .ok (.ireturn, 1) := dk_172 (dk_at dksX1_account_2 18 rfl rfl)
theorem dX1_account_83 : decode cX1_account 83 = .ok (.aload_n 0, 1) := dk_42 (dk_at dksX1_account_2 19 rfl rfl)
theorem dX1_account_84 : decode cX1_account 84 = .ok (.getfield 52, 3) := dk_180 0 52 (dk_at dksX1_account_2 20 rfl rfl)
theorem dX1_account_87 : decode cX1_account 87 = .ok (.invokevirtual 293, 3) := dk_182 1 37 (dk_at dksX1_account_3 0 rfl rfl)
theorem dX1_account_90 : decode cX1_account 90 = .ok (.ireturn, 1) := dk_172 (dk_at dksX1_account_3 3 rfl rfl)
theorem dX1_account_91 : decode cX1_account 91 = .ok (.aload_n 0, 1) := dk_42 (dk_at dksX1_account_3 4 rfl rfl)
theorem dX1_account_92 : decode cX1_account 92 = .ok (.getfield 52, 3) := dk_180 0 52 (dk_at dksX1_account_3 5 rfl rfl)
theorem dX1_account_95 : decode cX1_account 95 = .ok (.getfield 295, 3) := dk_180 1 39 (dk_at dksX1_account_3 8 rfl rfl)
theorem dX1_account_98 : decode cX1_account 98 = .ok (.invokevirtual 129, 3) := dk_182 0 129 (dk_at dksX1_account_3 11 rfl rfl)
theorem dX1_account_101 : decode cX1_account 101 = .ok (.ireturn, 1) := dk_172 (dk_at dksX1_account_3 14 rfl rfl)
theorem dX1_account_102 : decode cX1_account 102 = .ok (.aload_n 0, 1) := dk_42 (dk_at dksX1_account_3 15 rfl rfl)
theorem dX1_account_103 : decode cX1_account 103 = .ok (.getfield 52, 3) := dk_180 0 52 (dk_at dksX1_account_3 16 rfl rfl)
theorem dX1_account_106 : decode cX1_account 106 = .ok (.getfield 298, 3) := dk_180 1 42 (dk_at dksX1_account_3 19 rfl rfl)
theorem dX1_account_109 : decode cX1_account 109 = .ok (.ireturn, 1) := dk_172 (dk_at dksX1_account_3 22 rfl rfl)
theorem dX1_account_110 : decode cX1_account 110 = .ok (.aload_n 0, 1) := dk_42 (dk_at dksX1_account_3 23 rfl rfl)
theorem dX1_account_111 : decode cX1_account 111 = .ok (.getfield 52, 3) := dk_180 0 52 (dk_at dksX1_account_4 0 rfl rfl)
theorem dX1_account_114 : decode cX1_account 114 = .ok (.invokevirtual 231, 3) := dk_182 0 231 (dk_at dksX1_account_4 3 rfl rfl)
theorem dX1_account_117 : decode cX1_account 117 = .ok (.ireturn, 1) := dk_172 (dk_at dksX1_account_4 6 rfl rfl)
theorem dX1_account_118 : decode cX1_account 118 = .ok (.aload_n 0, 1) := dk_42 (dk_at dksX1_account_4 7 rfl rfl)
theorem dX1_account_119 : decode cX1_account 119 = .ok (.getfield 52, 3) := dk_180 0 52 (dk_at dksX1_account_4 8 rfl rfl)
theorem dX1_account_122 : decode cX1_account 122 = .ok (.invokevirtual 301, 3) := dk_182 1 45 (dk_at dksX1_account_4 11 rfl rfl)
theorem dX1_account_125 : decode cX1_account 125 = .ok (.ireturn, 1) := dk_172 (dk_at dksX1_account_4 14 rfl rfl)
theorem dX1_account_126 : decode cX1_account 126 = .ok (.aload_n 0, 1) := dk_42 (dk_at dksX1_account_4 15 rfl rfl)
theorem dX1_account_127 : decode cX1_account 127 = .ok (.getfield 52, 3) := dk_180 0 52 (dk_at dksX1_account_4 16 rfl rfl)
theorem dX1_account_130 : decode cX1_account 130 = .ok (.getfield 303, 3) := dk_180 1 47 (dk_at dksX1_account_4 19 rfl rfl)
theorem dX1_account_133 : decode cX1_account 133 = .ok (.ireturn, 1) := dk_172 (dk_at dksX1_account_4 22 rfl rfl)
theorem dX1_account_134 : decode cX1_account 134 = .ok (.aload_n 0, 1) := dk_42 (dk_at dksX1_account_4 23 rfl rfl)
theorem dX1_account_135 : decode cX1_account 135 = .ok (.getfield 52, 3) := dk_180 0 52 (dk_at dksX1_account_5 0 rfl rfl)
theorem dX1_account_138 : decode cX1_account 138 = .ok (.invokevirtual 306, 3) := dk_182 1 50 (dk_at dksX1_account_5 3 rfl rfl)
theorem dX1_account_141 : decode cX1_account 141 = .ok (.ireturn, 1) := dk_172 (dk_at dksX1_account_5 6 rfl rfl)
theorem dX1_account_142 : decode cX1_account 142 = .ok (.aload_n 0, 1) := dk_42 (dk_at dksX1_account_5 7 rfl rfl)
theorem dX1_account_143 : decode cX1_account 143 = .ok (.getfield 52, 3) := dk_180 0 52 (dk_at dksX1_account_5 8 rfl rfl)
theorem dX1_account_146 : decode cX1_account 146 = .ok (.getfield 309, 3) := dk_180 1 53 (dk_at dksX1_account_5 11 rfl rfl)
theorem dX1_account_149 : decode cX1_account 149 = .ok (.ireturn, 1) := dk_172 (dk_at dksX1_account_5 14 rfl rfl)
theorem dX1_account_150 : decode cX1_account 150 = .ok (.aload_n 0, 1) := dk_42 (dk_at dksX1_account_5 15 rfl rfl)
theorem dX1_account_151 : decode cX1_account 151 = .ok (.getfield 72, 3) := dk_180 0 72 (dk_at dksX1_account_5 16 rfl rfl)
theorem dX1_account_154 : decode cX1_account 154 = .ok (.invokevirtual 312, 3) := dk_182 1 56 (dk_at dksX1_account_5 19 rfl rfl)
theorem dX1_account_157 : decode cX1_account 157 = .ok (.ireturn, 1) := dk_172 (dk_at dksX1_account_5 22 rfl rfl)
theorem dX1_account_158 : decode cX1_account 158 = .ok (.aload_n 0, 1) := dk_42 (dk_at dksX1_account_5 23 rfl rfl)
theorem dX1_account_159 : decode cX1_account 159 = .ok (.getfield 61, 3) := dk_180 0 61 (dk_at dksX1_account_6 0 rfl rfl)
theorem dX1_account_162 : decode cX1_account 162 = .ok (.invokevirtual 86, 3) := dk_182 0 86 (dk_at dksX1_account_6 3 rfl rfl)
theorem dX1_account_165 : decode cX1_account 165 = .ok (.ireturn, 1) := dk_172 (dk_at dksX1_account_6 6 rfl rfl)
theorem dX1_account_166 : decode cX1_account 166 = .ok (.new 1, 3) := dk_187 0 1 (dk_at dksX1_account_6 7 rfl rfl)
theorem dX1_account_169 : decode cX1_account 169 = .ok (.dup, 1) := dk_89 (dk_at dksX1_account_6 10 rfl rfl)
theorem dX1_account_170 : decode cX1_account 170 = .ok (.invokespecial 3, 3) := dk_183 0 3 (dk_at dksX1_account_6 11 rfl rfl)
theorem dX1_account_173 : decode cX1_account 173 = .ok (.athrow, 1) := dk_191 (dk_at dksX1_account_6 14 rfl rfl)
abbrev cX1_meanTrust : ByteArray := prog_1_method_40_code
def yX1_meanTrust : MethodName := ⟨RX1, "meanTrust", "()D"⟩
def dkwX1_meanTrust_3 : List UInt8 := [180, 0, 52, 180, 0, 125, 182, 0, 129, 135, 111, 175]
abbrev dktX1_meanTrust_3 : List UInt8 := dkwX1_meanTrust_3 ++ []
def dkwX1_meanTrust_2 : List UInt8 := [185, 0, 31, 1, 0, 192, 0, 165, 58, 4, 39, 25, 4, 180, 0, 215, 141, 99, 72, 167, 255, 227, 39, 42]
abbrev dktX1_meanTrust_2 : List UInt8 := dkwX1_meanTrust_2 ++ dktX1_meanTrust_3
def dkwX1_meanTrust_1 : List UInt8 := [180, 0, 52, 180, 0, 125, 182, 0, 19, 78, 45, 185, 0, 25, 1, 0, 153, 0, 26, 45]
abbrev dktX1_meanTrust_1 : List UInt8 := dkwX1_meanTrust_1 ++ dktX1_meanTrust_2
def dkwX1_meanTrust_0 : List UInt8 := [42, 180, 0, 52, 180, 0, 125, 182, 1, 57, 154, 0, 7, 4, 167, 0, 4, 3, 184, 1, 60, 14, 72, 42]
abbrev dktX1_meanTrust_0 : List UInt8 := dkwX1_meanTrust_0 ++ dktX1_meanTrust_1
theorem dksX1_meanTrust_0 : cX1_meanTrust.data.toList.drop 0 = dktX1_meanTrust_0 := by decide +kernel
theorem dksX1_meanTrust_1 : cX1_meanTrust.data.toList.drop 24 = dktX1_meanTrust_1 := dk_seg dksX1_meanTrust_0 24 rfl rfl
theorem dksX1_meanTrust_2 : cX1_meanTrust.data.toList.drop 44 = dktX1_meanTrust_2 := dk_seg dksX1_meanTrust_1 20 rfl rfl
theorem dksX1_meanTrust_3 : cX1_meanTrust.data.toList.drop 68 = dktX1_meanTrust_3 := dk_seg dksX1_meanTrust_2 24 rfl rfl
theorem dX1_meanTrust_0 : decode cX1_meanTrust 0 = .ok (.aload_n 0, 1) := dk_42 (dk_at dksX1_meanTrust_0 0 rfl rfl)
theorem dX1_meanTrust_1 : decode cX1_meanTrust 1 = .ok (.getfield 52, 3) := dk_180 0 52 (dk_at dksX1_meanTrust_0 1 rfl rfl)
theorem dX1_meanTrust_4 : decode cX1_meanTrust 4 = .ok (.getfield 125, 3) := dk_180 0 125 (dk_at dksX1_meanTrust_0 4 rfl rfl)
theorem dX1_meanTrust_7 : decode cX1_meanTrust 7 = .ok (.invokevirtual 313, 3) := dk_182 1 57 (dk_at dksX1_meanTrust_0 7 rfl rfl)
theorem dX1_meanTrust_10 : decode cX1_meanTrust 10 = .ok (.ifCond .ne 7, 3) := dk_154 0 7 (dk_at dksX1_meanTrust_0 10 rfl rfl)
theorem dX1_meanTrust_13 : decode cX1_meanTrust 13 = .ok (.iconst 1, 1) := dk_4 (dk_at dksX1_meanTrust_0 13 rfl rfl)
theorem dX1_meanTrust_14 : decode cX1_meanTrust 14 = .ok (.goto 4, 3) := dk_167 0 4 (dk_at dksX1_meanTrust_0 14 rfl rfl)
theorem dX1_meanTrust_17 : decode cX1_meanTrust 17 = .ok (.iconst 0, 1) := dk_3 (dk_at dksX1_meanTrust_0 17 rfl rfl)
theorem dX1_meanTrust_18 : decode cX1_meanTrust 18 = .ok (.invokestatic 316, 3) := dk_184 1 60 (dk_at dksX1_meanTrust_0 18 rfl rfl)
theorem dX1_meanTrust_21 : decode cX1_meanTrust 21 = .ok (.dconst 0, 1) := dk_14 (dk_at dksX1_meanTrust_0 21 rfl rfl)
theorem dX1_meanTrust_22 : decode cX1_meanTrust 22 = .ok (.dstore_n 1, 1) := dk_72 (dk_at dksX1_meanTrust_0 22 rfl rfl)
theorem dX1_meanTrust_23 : decode cX1_meanTrust 23 = .ok (.aload_n 0, 1) := dk_42 (dk_at dksX1_meanTrust_0 23 rfl rfl)
theorem dX1_meanTrust_24 : decode cX1_meanTrust 24 = .ok (.getfield 52, 3) := dk_180 0 52 (dk_at dksX1_meanTrust_1 0 rfl rfl)
theorem dX1_meanTrust_27 : decode cX1_meanTrust 27 = .ok (.getfield 125, 3) := dk_180 0 125 (dk_at dksX1_meanTrust_1 3 rfl rfl)
theorem dX1_meanTrust_30 : decode cX1_meanTrust 30 = .ok (.invokevirtual 19, 3) := dk_182 0 19 (dk_at dksX1_meanTrust_1 6 rfl rfl)
theorem dX1_meanTrust_33 : decode cX1_meanTrust 33 = .ok (.astore_n 3, 1) := dk_78 (dk_at dksX1_meanTrust_1 9 rfl rfl)
theorem dX1_meanTrust_34 : decode cX1_meanTrust 34 = .ok (.aload_n 3, 1) := dk_45 (dk_at dksX1_meanTrust_1 10 rfl rfl)
theorem dX1_meanTrust_35 : decode cX1_meanTrust 35 = .ok (.invokeinterface 25 1, 5) := by decide +kernel
theorem dX1_meanTrust_40 : decode cX1_meanTrust 40 = .ok (.ifCond .eq 26, 3) := dk_153 0 26 (dk_at dksX1_meanTrust_1 16 rfl rfl)
theorem dX1_meanTrust_43 : decode cX1_meanTrust 43 = .ok (.aload_n 3, 1) := dk_45 (dk_at dksX1_meanTrust_1 19 rfl rfl)
theorem dX1_meanTrust_44 : decode cX1_meanTrust 44 = .ok (.invokeinterface 31 1, 5) := by decide +kernel
theorem dX1_meanTrust_49 : decode cX1_meanTrust 49 = .ok (.checkcast 165, 3) := dk_192 0 165 (dk_at dksX1_meanTrust_2 5 rfl rfl)
theorem dX1_meanTrust_52 : decode cX1_meanTrust 52 = .ok (.astore 4, 2) := dk_58 4 (dk_at dksX1_meanTrust_2 8 rfl rfl)
theorem dX1_meanTrust_54 : decode cX1_meanTrust 54 = .ok (.dload_n 1, 1) := dk_39 (dk_at dksX1_meanTrust_2 10 rfl rfl)
theorem dX1_meanTrust_55 : decode cX1_meanTrust 55 = .ok (.aload 4, 2) := dk_25 4 (dk_at dksX1_meanTrust_2 11 rfl rfl)
theorem dX1_meanTrust_57 : decode cX1_meanTrust 57 = .ok (.getfield 215, 3) := dk_180 0 215 (dk_at dksX1_meanTrust_2 13 rfl rfl)
theorem dX1_meanTrust_60 : decode cX1_meanTrust 60 = .ok (.f2d, 1) := dk_141 (dk_at dksX1_meanTrust_2 16 rfl rfl)
theorem dX1_meanTrust_61 : decode cX1_meanTrust 61 = .ok (.dadd, 1) := dk_99 (dk_at dksX1_meanTrust_2 17 rfl rfl)
theorem dX1_meanTrust_62 : decode cX1_meanTrust 62 = .ok (.dstore_n 1, 1) := dk_72 (dk_at dksX1_meanTrust_2 18 rfl rfl)
theorem dX1_meanTrust_63 : decode cX1_meanTrust 63 = .ok (.goto (-29), 3) := dk_167 255 227 (dk_at dksX1_meanTrust_2 19 rfl rfl)
theorem dX1_meanTrust_66 : decode cX1_meanTrust 66 = .ok (.dload_n 1, 1) := dk_39 (dk_at dksX1_meanTrust_2 22 rfl rfl)
theorem dX1_meanTrust_67 : decode cX1_meanTrust 67 = .ok (.aload_n 0, 1) := dk_42 (dk_at dksX1_meanTrust_2 23 rfl rfl)
theorem dX1_meanTrust_68 : decode cX1_meanTrust 68 = .ok (.getfield 52, 3) := dk_180 0 52 (dk_at dksX1_meanTrust_3 0 rfl rfl)
theorem dX1_meanTrust_71 : decode cX1_meanTrust 71 = .ok (.getfield 125, 3) := dk_180 0 125 (dk_at dksX1_meanTrust_3 3 rfl rfl)
theorem dX1_meanTrust_74 : decode cX1_meanTrust 74 = .ok (.invokevirtual 129, 3) := dk_182 0 129 (dk_at dksX1_meanTrust_3 6 rfl rfl)
theorem dX1_meanTrust_77 : decode cX1_meanTrust 77 = .ok (.i2d, 1) := dk_135 (dk_at dksX1_meanTrust_3 9 rfl rfl)
theorem dX1_meanTrust_78 : decode cX1_meanTrust 78 = .ok (.ddiv, 1) := dk_111 (dk_at dksX1_meanTrust_3 10 rfl rfl)
theorem dX1_meanTrust_79 : decode cX1_meanTrust 79 = .ok (.dreturn, 1) := dk_175 (dk_at dksX1_meanTrust_3 11 rfl rfl)
abbrev cX1_checkNumbers : ByteArray := prog_1_method_6_code
def yX1_checkNumbers : MethodName := ⟨RX1, "checkNumbers", "(Z)V"⟩
def dkwX1_checkNumbers_0 : List UInt8 := [26, 154, 0, 11, 187, 0, 16, 89, 183, 0, 18, 191, 177]
abbrev dktX1_checkNumbers_0 : List UInt8 := dkwX1_checkNumbers_0 ++ []
theorem dksX1_checkNumbers_0 : cX1_checkNumbers.data.toList.drop 0 = dktX1_checkNumbers_0 := by decide +kernel
theorem dX1_checkNumbers_0 : decode cX1_checkNumbers 0 = .ok (.iload_n 0, 1) := dk_26 (dk_at dksX1_checkNumbers_0 0 rfl rfl)
theorem dX1_checkNumbers_1 : decode cX1_checkNumbers 1 = .ok (.ifCond .ne 11, 3) := dk_154 0 11 (dk_at dksX1_checkNumbers_0 1 rfl rfl)
theorem dX1_checkNumbers_4 : decode cX1_checkNumbers 4 = .ok (.new 16, 3) := dk_187 0 16 (dk_at dksX1_checkNumbers_0 4 rfl rfl)
theorem dX1_checkNumbers_7 : decode cX1_checkNumbers 7 = .ok (.dup, 1) := dk_89 (dk_at dksX1_checkNumbers_0 7 rfl rfl)
theorem dX1_checkNumbers_8 : decode cX1_checkNumbers 8 = .ok (.invokespecial 18, 3) := dk_183 0 18 (dk_at dksX1_checkNumbers_0 8 rfl rfl)
theorem dX1_checkNumbers_11 : decode cX1_checkNumbers 11 = .ok (.athrow, 1) := dk_191 (dk_at dksX1_checkNumbers_0 11 rfl rfl)
theorem dX1_checkNumbers_12 : decode cX1_checkNumbers 12 = .ok (.return_, 1) := dk_177 (dk_at dksX1_checkNumbers_0 12 rfl rfl)
abbrev cX1_store : ByteArray := prog_1_method_42_code
def yX1_store : MethodName := ⟨RX1, "store", "(IZ)I"⟩
def dkwX1_store_4 : List UInt8 := [167, 0, 4, 45, 83, 45, 190, 172]
abbrev dktX1_store_4 : List UInt8 := dkwX1_store_4 ++ []
def dkwX1_store_3 : List UInt8 := [192, 0, 165, 180, 0, 215, 81, 132, 5, 1, 167, 255, 201, 42, 180, 0, 65, 27, 28, 153, 0, 8, 25, 4]
abbrev dktX1_store_3 : List UInt8 := dkwX1_store_3 ++ dktX1_store_4
def dkwX1_store_2 : List UInt8 := [192, 0, 165, 180, 0, 164, 79, 25, 4, 21, 5, 42, 180, 0, 52, 180, 0, 125, 21, 5, 182, 0, 181]
abbrev dktX1_store_2 : List UInt8 := dkwX1_store_2 ++ dktX1_store_3
def dkwX1_store_1 : List UInt8 := [54, 5, 21, 5, 45, 190, 162, 0, 54, 45, 21, 5, 42, 180, 0, 52, 180, 0, 125, 21, 5, 182, 0, 181]
abbrev dktX1_store_1 : List UInt8 := dkwX1_store_1 ++ dktX1_store_2
def dkwX1_store_0 : List UInt8 := [27, 184, 1, 63, 42, 180, 0, 52, 180, 0, 125, 182, 0, 129, 188, 10, 78, 45, 190, 188, 6, 58, 4, 3]
abbrev dktX1_store_0 : List UInt8 := dkwX1_store_0 ++ dktX1_store_1
theorem dksX1_store_0 : cX1_store.data.toList.drop 0 = dktX1_store_0 := by decide +kernel
theorem dksX1_store_1 : cX1_store.data.toList.drop 24 = dktX1_store_1 := dk_seg dksX1_store_0 24 rfl rfl
theorem dksX1_store_2 : cX1_store.data.toList.drop 48 = dktX1_store_2 := dk_seg dksX1_store_1 24 rfl rfl
theorem dksX1_store_3 : cX1_store.data.toList.drop 71 = dktX1_store_3 := dk_seg dksX1_store_2 23 rfl rfl
theorem dksX1_store_4 : cX1_store.data.toList.drop 95 = dktX1_store_4 := dk_seg dksX1_store_3 24 rfl rfl
theorem dX1_store_0 : decode cX1_store 0 = .ok (.iload_n 1, 1) := dk_27 (dk_at dksX1_store_0 0 rfl rfl)
theorem dX1_store_1 : decode cX1_store 1 = .ok (.invokestatic 319, 3) := dk_184 1 63 (dk_at dksX1_store_0 1 rfl rfl)
theorem dX1_store_4 : decode cX1_store 4 = .ok (.aload_n 0, 1) := dk_42 (dk_at dksX1_store_0 4 rfl rfl)
theorem dX1_store_5 : decode cX1_store 5 = .ok (.getfield 52, 3) := dk_180 0 52 (dk_at dksX1_store_0 5 rfl rfl)
theorem dX1_store_8 : decode cX1_store 8 = .ok (.getfield 125, 3) := dk_180 0 125 (dk_at dksX1_store_0 8 rfl rfl)
theorem dX1_store_11 : decode cX1_store 11 = .ok (.invokevirtual 129, 3) := dk_182 0 129 (dk_at dksX1_store_0 11 rfl rfl)
theorem dX1_store_14 : decode cX1_store 14 = .ok (.newarray .int, 2) := dk_188_10 (dk_at dksX1_store_0 14 rfl rfl)
theorem dX1_store_16 : decode cX1_store 16 = .ok (.astore_n 3, 1) := dk_78 (dk_at dksX1_store_0 16 rfl rfl)
theorem dX1_store_17 : decode cX1_store 17 = .ok (.aload_n 3, 1) := dk_45 (dk_at dksX1_store_0 17 rfl rfl)
theorem dX1_store_18 : decode cX1_store 18 = .ok (.arraylength, 1) := dk_190 (dk_at dksX1_store_0 18 rfl rfl)
theorem dX1_store_19 : decode cX1_store 19 = .ok (.newarray .float, 2) := dk_188_6 (dk_at dksX1_store_0 19 rfl rfl)
theorem dX1_store_21 : decode cX1_store 21 = .ok (.astore 4, 2) := dk_58 4 (dk_at dksX1_store_0 21 rfl rfl)
theorem dX1_store_23 : decode cX1_store 23 = .ok (.iconst 0, 1) := dk_3 (dk_at dksX1_store_0 23 rfl rfl)
theorem dX1_store_24 : decode cX1_store 24 = .ok (.istore 5, 2) := dk_54 5 (dk_at dksX1_store_1 0 rfl rfl)
theorem dX1_store_26 : decode cX1_store 26 = .ok (.iload 5, 2) := dk_21 5 (dk_at dksX1_store_1 2 rfl rfl)
theorem dX1_store_28 : decode cX1_store 28 = .ok (.aload_n 3, 1) := dk_45 (dk_at dksX1_store_1 4 rfl rfl)
theorem dX1_store_29 : decode cX1_store 29 = .ok (.arraylength, 1) := dk_190 (dk_at dksX1_store_1 5 rfl rfl)
theorem dX1_store_30 : decode cX1_store 30 = .ok (.if_icmp .ge 54, 3) := dk_162 0 54 (dk_at dksX1_store_1 6 rfl rfl)
theorem dX1_store_33 : decode cX1_store 33 = .ok (.aload_n 3, 1) := dk_45 (dk_at dksX1_store_1 9 rfl rfl)
theorem dX1_store_34 : decode cX1_store 34 = .ok (.iload 5, 2) := dk_21 5 (dk_at dksX1_store_1 10 rfl rfl)
theorem dX1_store_36 : decode cX1_store 36 = .ok (.aload_n 0, 1) := dk_42 (dk_at dksX1_store_1 12 rfl rfl)
theorem dX1_store_37 : decode cX1_store 37 = .ok (.getfield 52, 3) := dk_180 0 52 (dk_at dksX1_store_1 13 rfl rfl)
theorem dX1_store_40 : decode cX1_store 40 = .ok (.getfield 125, 3) := dk_180 0 125 (dk_at dksX1_store_1 16 rfl rfl)
theorem dX1_store_43 : decode cX1_store 43 = .ok (.iload 5, 2) := dk_21 5 (dk_at dksX1_store_1 19 rfl rfl)
theorem dX1_store_45 : decode cX1_store 45 = .ok (.invokevirtual 181, 3) := dk_182 0 181 (dk_at dksX1_store_1 21 rfl rfl)
theorem dX1_store_48 : decode cX1_store 48 = .ok (.checkcast 165, 3) := dk_192 0 165 (dk_at dksX1_store_2 0 rfl rfl)
theorem dX1_store_51 : decode cX1_store 51 = .ok (.getfield 164, 3) := dk_180 0 164 (dk_at dksX1_store_2 3 rfl rfl)
theorem dX1_store_54 : decode cX1_store 54 = .ok (.iastore, 1) := dk_79 (dk_at dksX1_store_2 6 rfl rfl)
theorem dX1_store_55 : decode cX1_store 55 = .ok (.aload 4, 2) := dk_25 4 (dk_at dksX1_store_2 7 rfl rfl)
theorem dX1_store_57 : decode cX1_store 57 = .ok (.iload 5, 2) := dk_21 5 (dk_at dksX1_store_2 9 rfl rfl)
theorem dX1_store_59 : decode cX1_store 59 = .ok (.aload_n 0, 1) := dk_42 (dk_at dksX1_store_2 11 rfl rfl)
theorem dX1_store_60 : decode cX1_store 60 = .ok (.getfield 52, 3) := dk_180 0 52 (dk_at dksX1_store_2 12 rfl rfl)
theorem dX1_store_63 : decode cX1_store 63 = .ok (.getfield 125, 3) := dk_180 0 125 (dk_at dksX1_store_2 15 rfl rfl)
theorem dX1_store_66 : decode cX1_store 66 = .ok (.iload 5, 2) := dk_21 5 (dk_at dksX1_store_2 18 rfl rfl)
theorem dX1_store_68 : decode cX1_store 68 = .ok (.invokevirtual 181, 3) := dk_182 0 181 (dk_at dksX1_store_2 20 rfl rfl)
theorem dX1_store_71 : decode cX1_store 71 = .ok (.checkcast 165, 3) := dk_192 0 165 (dk_at dksX1_store_3 0 rfl rfl)
theorem dX1_store_74 : decode cX1_store 74 = .ok (.getfield 215, 3) := dk_180 0 215 (dk_at dksX1_store_3 3 rfl rfl)
theorem dX1_store_77 : decode cX1_store 77 = .ok (.fastore, 1) := dk_81 (dk_at dksX1_store_3 6 rfl rfl)
theorem dX1_store_78 : decode cX1_store 78 = .ok (.iinc 5 1, 3) := dk_132 5 1 (dk_at dksX1_store_3 7 rfl rfl)
theorem dX1_store_81 : decode cX1_store 81 = .ok (.goto (-55), 3) := dk_167 255 201 (dk_at dksX1_store_3 10 rfl rfl)
theorem dX1_store_84 : decode cX1_store 84 = .ok (.aload_n 0, 1) := dk_42 (dk_at dksX1_store_3 13 rfl rfl)
theorem dX1_store_85 : decode cX1_store 85 = .ok (.getfield 65, 3) := dk_180 0 65 (dk_at dksX1_store_3 14 rfl rfl)
theorem dX1_store_88 : decode cX1_store 88 = .ok (.iload_n 1, 1) := dk_27 (dk_at dksX1_store_3 17 rfl rfl)
theorem dX1_store_89 : decode cX1_store 89 = .ok (.iload_n 2, 1) := dk_28 (dk_at dksX1_store_3 18 rfl rfl)
theorem dX1_store_90 : decode cX1_store 90 = .ok (.ifCond .eq 8, 3) := dk_153 0 8 (dk_at dksX1_store_3 19 rfl rfl)
theorem dX1_store_93 : decode cX1_store 93 = .ok (.aload 4, 2) := dk_25 4 (dk_at dksX1_store_3 22 rfl rfl)
theorem dX1_store_95 : decode cX1_store 95 = .ok (.goto 4, 3) := dk_167 0 4 (dk_at dksX1_store_4 0 rfl rfl)
theorem dX1_store_98 : decode cX1_store 98 = .ok (.aload_n 3, 1) := dk_45 (dk_at dksX1_store_4 3 rfl rfl)
theorem dX1_store_99 : decode cX1_store 99 = .ok (.aastore, 1) := dk_83 (dk_at dksX1_store_4 4 rfl rfl)
theorem dX1_store_100 : decode cX1_store 100 = .ok (.aload_n 3, 1) := dk_45 (dk_at dksX1_store_4 5 rfl rfl)
theorem dX1_store_101 : decode cX1_store 101 = .ok (.arraylength, 1) := dk_190 (dk_at dksX1_store_4 6 rfl rfl)
theorem dX1_store_102 : decode cX1_store 102 = .ok (.ireturn, 1) := dk_172 (dk_at dksX1_store_4 7 rfl rfl)
abbrev cX1_checkRow : ByteArray := prog_1_method_41_code
def yX1_checkRow : MethodName := ⟨RX1, "checkRow", "(I)V"⟩
def dkwX1_checkRow_0 : List UInt8 := [26, 133, 9, 10, 184, 0, 177, 184, 1, 18, 177]
abbrev dktX1_checkRow_0 : List UInt8 := dkwX1_checkRow_0 ++ []
theorem dksX1_checkRow_0 : cX1_checkRow.data.toList.drop 0 = dktX1_checkRow_0 := by decide +kernel
theorem dX1_checkRow_0 : decode cX1_checkRow 0 = .ok (.iload_n 0, 1) := dk_26 (dk_at dksX1_checkRow_0 0 rfl rfl)
theorem dX1_checkRow_1 : decode cX1_checkRow 1 = .ok (.i2l, 1) := dk_133 (dk_at dksX1_checkRow_0 1 rfl rfl)
theorem dX1_checkRow_2 : decode cX1_checkRow 2 = .ok (.lconst 0, 1) := dk_9 (dk_at dksX1_checkRow_0 2 rfl rfl)
theorem dX1_checkRow_3 : decode cX1_checkRow 3 = .ok (.lconst 1, 1) := dk_10 (dk_at dksX1_checkRow_0 3 rfl rfl)
theorem dX1_checkRow_4 : decode cX1_checkRow 4 = .ok (.invokestatic 177, 3) := dk_184 0 177 (dk_at dksX1_checkRow_0 4 rfl rfl)
theorem dX1_checkRow_7 : decode cX1_checkRow 7 = .ok (.invokestatic 274, 3) := dk_184 1 18 (dk_at dksX1_checkRow_0 7 rfl rfl)
theorem dX1_checkRow_10 : decode cX1_checkRow 10 = .ok (.return_, 1) := dk_177 (dk_at dksX1_checkRow_0 10 rfl rfl)
abbrev cX1_copyRow : ByteArray := prog_1_method_46_code
def yX1_copyRow : MethodName := ⟨RX1, "copyRow", "(II)I"⟩
def dkwX1_copyRow_6 : List UInt8 := [21, 5, 172]
abbrev dktX1_copyRow_6 : List UInt8 := dkwX1_copyRow_6 ++ []
def dkwX1_copyRow_5 : List UInt8 := [167, 0, 4, 4, 96, 54, 5, 132, 6, 1, 167, 255, 221, 42, 180, 0, 65, 4, 27, 100, 25, 4, 83]
abbrev dktX1_copyRow_5 : List UInt8 := dkwX1_copyRow_5 ++ dktX1_copyRow_6
def dkwX1_copyRow_4 : List UInt8 := [162, 0, 35, 21, 5, 45, 21, 6, 184, 1, 87, 25, 4, 21, 6, 184, 1, 87, 160, 0, 7, 3]
abbrev dktX1_copyRow_4 : List UInt8 := dkwX1_copyRow_4 ++ dktX1_copyRow_5
def dkwX1_copyRow_3 : List UInt8 := [183, 0, 115, 191, 58, 5, 187, 0, 1, 89, 183, 0, 3, 191, 3, 54, 5, 3, 54, 6, 21, 6, 28]
abbrev dktX1_copyRow_3 : List UInt8 := dkwX1_copyRow_3 ++ dktX1_copyRow_4
def dkwX1_copyRow_2 : List UInt8 := [180, 0, 65, 27, 50, 3, 25, 4, 3, 28, 184, 1, 79, 167, 0, 23, 58, 5, 187, 0, 113, 89]
abbrev dktX1_copyRow_2 : List UInt8 := dkwX1_copyRow_2 ++ dktX1_copyRow_3
def dkwX1_copyRow_1 : List UInt8 := [167, 0, 4, 3, 184, 0, 160, 42, 180, 0, 65, 4, 27, 100, 50, 78, 45, 184, 1, 75, 58, 4, 42]
abbrev dktX1_copyRow_1 : List UInt8 := dkwX1_copyRow_1 ++ dktX1_copyRow_2
def dkwX1_copyRow_0 : List UInt8 := [27, 184, 1, 63, 42, 180, 0, 65, 3, 50, 198, 0, 16, 42, 180, 0, 65, 4, 50, 198, 0, 7, 4]
abbrev dktX1_copyRow_0 : List UInt8 := dkwX1_copyRow_0 ++ dktX1_copyRow_1
theorem dksX1_copyRow_0 : cX1_copyRow.data.toList.drop 0 = dktX1_copyRow_0 := by decide +kernel
theorem dksX1_copyRow_1 : cX1_copyRow.data.toList.drop 23 = dktX1_copyRow_1 := dk_seg dksX1_copyRow_0 23 rfl rfl
theorem dksX1_copyRow_2 : cX1_copyRow.data.toList.drop 46 = dktX1_copyRow_2 := dk_seg dksX1_copyRow_1 23 rfl rfl
theorem dksX1_copyRow_3 : cX1_copyRow.data.toList.drop 68 = dktX1_copyRow_3 := dk_seg dksX1_copyRow_2 22 rfl rfl
theorem dksX1_copyRow_4 : cX1_copyRow.data.toList.drop 91 = dktX1_copyRow_4 := dk_seg dksX1_copyRow_3 23 rfl rfl
theorem dksX1_copyRow_5 : cX1_copyRow.data.toList.drop 113 = dktX1_copyRow_5 := dk_seg dksX1_copyRow_4 22 rfl rfl
theorem dksX1_copyRow_6 : cX1_copyRow.data.toList.drop 136 = dktX1_copyRow_6 := dk_seg dksX1_copyRow_5 23 rfl rfl
theorem dX1_copyRow_0 : decode cX1_copyRow 0 = .ok (.iload_n 1, 1) := dk_27 (dk_at dksX1_copyRow_0 0 rfl rfl)
theorem dX1_copyRow_1 : decode cX1_copyRow 1 = .ok (.invokestatic 319, 3) := dk_184 1 63 (dk_at dksX1_copyRow_0 1 rfl rfl)
theorem dX1_copyRow_4 : decode cX1_copyRow 4 = .ok (.aload_n 0, 1) := dk_42 (dk_at dksX1_copyRow_0 4 rfl rfl)
theorem dX1_copyRow_5 : decode cX1_copyRow 5 = .ok (.getfield 65, 3) := dk_180 0 65 (dk_at dksX1_copyRow_0 5 rfl rfl)
theorem dX1_copyRow_8 : decode cX1_copyRow 8 = .ok (.iconst 0, 1) := dk_3 (dk_at dksX1_copyRow_0 8 rfl rfl)
theorem dX1_copyRow_9 : decode cX1_copyRow 9 = .ok (.aaload, 1) := dk_50 (dk_at dksX1_copyRow_0 9 rfl rfl)
theorem dX1_copyRow_10 : decode cX1_copyRow 10 = .ok (.ifnull 16, 3) := dk_198 0 16 (dk_at dksX1_copyRow_0 10 rfl rfl)
theorem dX1_copyRow_13 : decode cX1_copyRow 13 = .ok (.aload_n 0, 1) := dk_42 (dk_at dksX1_copyRow_0 13 rfl rfl)
theorem dX1_copyRow_14 : decode cX1_copyRow 14 = .ok (.getfield 65, 3) := dk_180 0 65 (dk_at dksX1_copyRow_0 14 rfl rfl)
theorem dX1_copyRow_17 : decode cX1_copyRow 17 = .ok (.iconst 1, 1) := dk_4 (dk_at dksX1_copyRow_0 17 rfl rfl)
theorem dX1_copyRow_18 : decode cX1_copyRow 18 = .ok (.aaload, 1) := dk_50 (dk_at dksX1_copyRow_0 18 rfl rfl)
theorem dX1_copyRow_19 : decode cX1_copyRow 19 = .ok (.ifnull 7, 3) := dk_198 0 7 (dk_at dksX1_copyRow_0 19 rfl rfl)
theorem dX1_copyRow_22 : decode cX1_copyRow 22 = .ok (.iconst 1, 1) := dk_4 (dk_at dksX1_copyRow_0 22 rfl rfl)
theorem dX1_copyRow_23 : decode cX1_copyRow 23 = .ok (.goto 4, 3) := dk_167 0 4 (dk_at dksX1_copyRow_1 0 rfl rfl)
theorem dX1_copyRow_26 : decode cX1_copyRow 26 = .ok (.iconst 0, 1) := dk_3 (dk_at dksX1_copyRow_1 3 rfl rfl)
theorem dX1_copyRow_27 : decode cX1_copyRow 27 = .ok (.invokestatic 160, 3) := dk_184 0 160 (dk_at dksX1_copyRow_1 4 rfl rfl)
theorem dX1_copyRow_30 : decode cX1_copyRow 30 = .ok (.aload_n 0, 1) := dk_42 (dk_at dksX1_copyRow_1 7 rfl rfl)
theorem dX1_copyRow_31 : decode cX1_copyRow 31 = .ok (.getfield 65, 3) := dk_180 0 65 (dk_at dksX1_copyRow_1 8 rfl rfl)
theorem dX1_copyRow_34 : decode cX1_copyRow 34 = .ok (.iconst 1, 1) := dk_4 (dk_at dksX1_copyRow_1 11 rfl rfl)
theorem dX1_copyRow_35 : decode cX1_copyRow 35 = .ok (.iload_n 1, 1) := dk_27 (dk_at dksX1_copyRow_1 12 rfl rfl)
theorem dX1_copyRow_36 : decode cX1_copyRow 36 = .ok (.isub, 1) := dk_100 (dk_at dksX1_copyRow_1 13 rfl rfl)
theorem dX1_copyRow_37 : decode cX1_copyRow 37 = .ok (.aaload, 1) := dk_50 (dk_at dksX1_copyRow_1 14 rfl rfl)
theorem dX1_copyRow_38 : decode cX1_copyRow 38 = .ok (.astore_n 3, 1) := dk_78 (dk_at dksX1_copyRow_1 15 rfl rfl)
theorem dX1_copyRow_39 : decode cX1_copyRow 39 = .ok (.aload_n 3, 1) := dk_45 (dk_at dksX1_copyRow_1 16 rfl rfl)
theorem dX1_copyRow_40 : decode cX1_copyRow 40 = .ok (.invokestatic 331, 3) := dk_184 1 75 (dk_at dksX1_copyRow_1 17 rfl rfl)
theorem dX1_copyRow_43 : decode cX1_copyRow 43 = .ok (.astore 4, 2) := dk_58 4 (dk_at dksX1_copyRow_1 20 rfl rfl)
theorem dX1_copyRow_45 : decode cX1_copyRow 45 = .ok (.aload_n 0, 1) := dk_42 (dk_at dksX1_copyRow_1 22 rfl rfl)
theorem dX1_copyRow_46 : decode cX1_copyRow 46 = .ok (.getfield 65, 3) := dk_180 0 65 (dk_at dksX1_copyRow_2 0 rfl rfl)
theorem dX1_copyRow_49 : decode cX1_copyRow 49 = .ok (.iload_n 1, 1) := dk_27 (dk_at dksX1_copyRow_2 3 rfl rfl)
theorem dX1_copyRow_50 : decode cX1_copyRow 50 = .ok (.aaload, 1) := dk_50 (dk_at dksX1_copyRow_2 4 rfl rfl)
theorem dX1_copyRow_51 : decode cX1_copyRow 51 = .ok (.iconst 0, 1) := dk_3 (dk_at dksX1_copyRow_2 5 rfl rfl)
theorem dX1_copyRow_52 : decode cX1_copyRow 52 = .ok (.aload 4, 2) := dk_25 4 (dk_at dksX1_copyRow_2 6 rfl rfl)
theorem dX1_copyRow_54 : decode cX1_copyRow 54 = .ok (.iconst 0, 1) := dk_3 (dk_at dksX1_copyRow_2 8 rfl rfl)
theorem dX1_copyRow_55 : decode cX1_copyRow 55 = .ok (.iload_n 2, 1) := dk_28 (dk_at dksX1_copyRow_2 9 rfl rfl)
theorem dX1_copyRow_56 : decode cX1_copyRow 56 = .ok (.invokestatic 335, 3) := dk_184 1 79 (dk_at dksX1_copyRow_2 10 rfl rfl)
theorem dX1_copyRow_59 : decode cX1_copyRow 59 = .ok (.goto 23, 3) := dk_167 0 23 (dk_at dksX1_copyRow_2 13 rfl rfl)
theorem dX1_copyRow_62 : decode cX1_copyRow 62 = .ok (.astore 5, 2) := dk_58 5 (dk_at dksX1_copyRow_2 16 rfl rfl)
theorem dX1_copyRow_64 : decode cX1_copyRow 64 = .ok (.new 113, 3) := dk_187 0 113 (dk_at dksX1_copyRow_2 18 rfl rfl)
theorem dX1_copyRow_67 : decode cX1_copyRow 67 = .ok (.dup, 1) := dk_89 (dk_at dksX1_copyRow_2 21 rfl rfl)
theorem dX1_copyRow_68 : decode cX1_copyRow 68 = .ok (.invokespecial 115, 3) := dk_183 0 115 (dk_at dksX1_copyRow_3 0 rfl rfl)
theorem dX1_copyRow_71 : decode cX1_copyRow 71 = .ok (.athrow, 1) := dk_191 (dk_at dksX1_copyRow_3 3 rfl rfl)
theorem dX1_copyRow_72 : decode cX1_copyRow 72 = .ok (.astore 5, 2) := dk_58 5 (dk_at dksX1_copyRow_3 4 rfl rfl)
theorem dX1_copyRow_74 : decode cX1_copyRow 74 = .ok (.new 1, 3) := dk_187 0 1 (dk_at dksX1_copyRow_3 6 rfl rfl)
theorem dX1_copyRow_77 : decode cX1_copyRow 77 = .ok (.dup, 1) := dk_89 (dk_at dksX1_copyRow_3 9 rfl rfl)
theorem dX1_copyRow_78 : decode cX1_copyRow 78 = .ok (.invokespecial 3, 3) := dk_183 0 3 (dk_at dksX1_copyRow_3 10 rfl rfl)
theorem dX1_copyRow_81 : decode cX1_copyRow 81 = .ok (.athrow, 1) := dk_191 (dk_at dksX1_copyRow_3 13 rfl rfl)
theorem dX1_copyRow_82 : decode cX1_copyRow 82 = .ok (.iconst 0, 1) := dk_3 (dk_at dksX1_copyRow_3 14 rfl rfl)
theorem dX1_copyRow_83 : decode cX1_copyRow 83 = .ok (.istore 5, 2) := dk_54 5 (dk_at dksX1_copyRow_3 15 rfl rfl)
theorem dX1_copyRow_85 : decode cX1_copyRow 85 = .ok (.iconst 0, 1) := dk_3 (dk_at dksX1_copyRow_3 17 rfl rfl)
theorem dX1_copyRow_86 : decode cX1_copyRow 86 = .ok (.istore 6, 2) := dk_54 6 (dk_at dksX1_copyRow_3 18 rfl rfl)
theorem dX1_copyRow_88 : decode cX1_copyRow 88 = .ok (.iload 6, 2) := dk_21 6 (dk_at dksX1_copyRow_3 20 rfl rfl)
theorem dX1_copyRow_90 : decode cX1_copyRow 90 = .ok (.iload_n 2, 1) := dk_28 (dk_at dksX1_copyRow_3 22 rfl rfl)
theorem dX1_copyRow_91 : decode cX1_copyRow 91 = .ok (.if_icmp .ge 35, 3) := dk_162 0 35 (dk_at dksX1_copyRow_4 0 rfl rfl)
theorem dX1_copyRow_94 : decode cX1_copyRow 94 = .ok (.iload 5, 2) := dk_21 5 (dk_at dksX1_copyRow_4 3 rfl rfl)
theorem dX1_copyRow_96 : decode cX1_copyRow 96 = .ok (.aload_n 3, 1) := dk_45 (dk_at dksX1_copyRow_4 5 rfl rfl)
theorem dX1_copyRow_97 : decode cX1_copyRow 97 = .ok (.iload 6, 2) := dk_21 6 (dk_at dksX1_copyRow_4 6 rfl rfl)
theorem dX1_copyRow_99 : decode cX1_copyRow 99 = .ok (.invokestatic 343, 3) := dk_184 1 87 (dk_at dksX1_copyRow_4 8 rfl rfl)
theorem dX1_copyRow_102 : decode cX1_copyRow 102 = .ok (.aload 4, 2) := dk_25 4 (dk_at dksX1_copyRow_4 11 rfl rfl)
theorem dX1_copyRow_104 : decode cX1_copyRow 104 = .ok (.iload 6, 2) := dk_21 6 (dk_at dksX1_copyRow_4 13 rfl rfl)
theorem dX1_copyRow_106 : decode cX1_copyRow 106 = .ok (.invokestatic 343, 3) := dk_184 1 87 (dk_at dksX1_copyRow_4 15 rfl rfl)
theorem dX1_copyRow_109 : decode cX1_copyRow 109 = .ok (.if_icmp .ne 7, 3) := dk_160 0 7 (dk_at dksX1_copyRow_4 18 rfl rfl)
theorem dX1_copyRow_112 : decode cX1_copyRow 112 = .ok (.iconst 0, 1) := dk_3 (dk_at dksX1_copyRow_4 21 rfl rfl)
theorem dX1_copyRow_113 : decode cX1_copyRow 113 = .ok (.goto 4, 3) := dk_167 0 4 (dk_at dksX1_copyRow_5 0 rfl rfl)
theorem dX1_copyRow_116 : decode cX1_copyRow 116 = .ok (.iconst 1, 1) := dk_4 (dk_at dksX1_copyRow_5 3 rfl rfl)
theorem dX1_copyRow_117 : decode cX1_copyRow 117 = .ok (.iadd, 1) := dk_96 (dk_at dksX1_copyRow_5 4 rfl rfl)
theorem dX1_copyRow_118 : decode cX1_copyRow 118 = .ok (.istore 5, 2) := dk_54 5 (dk_at dksX1_copyRow_5 5 rfl rfl)
theorem dX1_copyRow_120 : decode cX1_copyRow 120 = .ok (.iinc 6 1, 3) := dk_132 6 1 (dk_at dksX1_copyRow_5 7 rfl rfl)
theorem dX1_copyRow_123 : decode cX1_copyRow 123 = .ok (.goto (-35), 3) := dk_167 255 221 (dk_at dksX1_copyRow_5 10 rfl rfl)
theorem dX1_copyRow_126 : decode cX1_copyRow 126 = .ok (.aload_n 0, 1) := dk_42 (dk_at dksX1_copyRow_5 13 rfl rfl)
theorem dX1_copyRow_127 : decode cX1_copyRow 127 = .ok (.getfield 65, 3) := dk_180 0 65 (dk_at dksX1_copyRow_5 14 rfl rfl)
theorem dX1_copyRow_130 : decode cX1_copyRow 130 = .ok (.iconst 1, 1) := dk_4 (dk_at dksX1_copyRow_5 17 rfl rfl)
theorem dX1_copyRow_131 : decode cX1_copyRow 131 = .ok (.iload_n 1, 1) := dk_27 (dk_at dksX1_copyRow_5 18 rfl rfl)
theorem dX1_copyRow_132 : decode cX1_copyRow 132 = .ok (.isub, 1) := dk_100 (dk_at dksX1_copyRow_5 19 rfl rfl)
theorem dX1_copyRow_133 : decode cX1_copyRow 133 = .ok (.aload 4, 2) := dk_25 4 (dk_at dksX1_copyRow_5 20 rfl rfl)
theorem dX1_copyRow_135 : decode cX1_copyRow 135 = .ok (.aastore, 1) := dk_83 (dk_at dksX1_copyRow_5 22 rfl rfl)
theorem dX1_copyRow_136 : decode cX1_copyRow 136 = .ok (.iload 5, 2) := dk_21 5 (dk_at dksX1_copyRow_6 0 rfl rfl)
theorem dX1_copyRow_138 : decode cX1_copyRow 138 = .ok (.ireturn, 1) := dk_172 (dk_at dksX1_copyRow_6 2 rfl rfl)
abbrev cX1_copyOf : ByteArray := prog_1_method_45_code
def yX1_copyOf : MethodName := ⟨RX1, "copyOf", "(Ljava/lang/Object;)Ljava/lang/Object;"⟩
def dkwX1_copyOf_1 : List UInt8 := [182, 1, 74, 176]
abbrev dktX1_copyOf_1 : List UInt8 := dkwX1_copyOf_1 ++ []
def dkwX1_copyOf_0 : List UInt8 := [42, 193, 1, 67, 153, 0, 15, 42, 192, 1, 67, 76, 43, 182, 1, 71, 167, 0, 10, 42, 192, 1, 69]
abbrev dktX1_copyOf_0 : List UInt8 := dkwX1_copyOf_0 ++ dktX1_copyOf_1
theorem dksX1_copyOf_0 : cX1_copyOf.data.toList.drop 0 = dktX1_copyOf_0 := by decide +kernel
theorem dksX1_copyOf_1 : cX1_copyOf.data.toList.drop 23 = dktX1_copyOf_1 := dk_seg dksX1_copyOf_0 23 rfl rfl
theorem dX1_copyOf_0 : decode cX1_copyOf 0 = .ok (.aload_n 0, 1) := dk_42 (dk_at dksX1_copyOf_0 0 rfl rfl)
theorem dX1_copyOf_1 : decode cX1_copyOf 1 = .ok (.instanceof 323, 3) := dk_193 1 67 (dk_at dksX1_copyOf_0 1 rfl rfl)
theorem dX1_copyOf_4 : decode cX1_copyOf 4 = .ok (.ifCond .eq 15, 3) := dk_153 0 15 (dk_at dksX1_copyOf_0 4 rfl rfl)
theorem dX1_copyOf_7 : decode cX1_copyOf 7 = .ok (.aload_n 0, 1) := dk_42 (dk_at dksX1_copyOf_0 7 rfl rfl)
theorem dX1_copyOf_8 : decode cX1_copyOf 8 = .ok (.checkcast 323, 3) := dk_192 1 67 (dk_at dksX1_copyOf_0 8 rfl rfl)
theorem dX1_copyOf_11 : decode cX1_copyOf 11 = .ok (.astore_n 1, 1) := dk_76 (dk_at dksX1_copyOf_0 11 rfl rfl)
theorem dX1_copyOf_12 : decode cX1_copyOf 12 = .ok (.aload_n 1, 1) := dk_43 (dk_at dksX1_copyOf_0 12 rfl rfl)
theorem dX1_copyOf_13 : decode cX1_copyOf 13 = .ok (.invokevirtual 327, 3) := dk_182 1 71 (dk_at dksX1_copyOf_0 13 rfl rfl)
theorem dX1_copyOf_16 : decode cX1_copyOf 16 = .ok (.goto 10, 3) := dk_167 0 10 (dk_at dksX1_copyOf_0 16 rfl rfl)
theorem dX1_copyOf_19 : decode cX1_copyOf 19 = .ok (.aload_n 0, 1) := dk_42 (dk_at dksX1_copyOf_0 19 rfl rfl)
theorem dX1_copyOf_20 : decode cX1_copyOf 20 = .ok (.checkcast 325, 3) := dk_192 1 69 (dk_at dksX1_copyOf_0 20 rfl rfl)
theorem dX1_copyOf_23 : decode cX1_copyOf 23 = .ok (.invokevirtual 330, 3) := dk_182 1 74 (dk_at dksX1_copyOf_1 0 rfl rfl)
theorem dX1_copyOf_26 : decode cX1_copyOf 26 = .ok (.areturn, 1) := dk_176 (dk_at dksX1_copyOf_1 3 rfl rfl)
abbrev cX1_bits : ByteArray := prog_1_method_44_code
def yX1_bits : MethodName := ⟨RX1, "bits", "(Ljava/lang/Object;I)I"⟩
def dkwX1_bits_1 : List UInt8 := [184, 0, 219, 172]
abbrev dktX1_bits_1 : List UInt8 := dkwX1_bits_1 ++ []
def dkwX1_bits_0 : List UInt8 := [42, 193, 1, 67, 153, 0, 14, 42, 192, 1, 67, 77, 44, 27, 46, 167, 0, 12, 42, 192, 1, 69, 27, 48]
abbrev dktX1_bits_0 : List UInt8 := dkwX1_bits_0 ++ dktX1_bits_1
theorem dksX1_bits_0 : cX1_bits.data.toList.drop 0 = dktX1_bits_0 := by decide +kernel
theorem dksX1_bits_1 : cX1_bits.data.toList.drop 24 = dktX1_bits_1 := dk_seg dksX1_bits_0 24 rfl rfl
theorem dX1_bits_0 : decode cX1_bits 0 = .ok (.aload_n 0, 1) := dk_42 (dk_at dksX1_bits_0 0 rfl rfl)
theorem dX1_bits_1 : decode cX1_bits 1 = .ok (.instanceof 323, 3) := dk_193 1 67 (dk_at dksX1_bits_0 1 rfl rfl)
theorem dX1_bits_4 : decode cX1_bits 4 = .ok (.ifCond .eq 14, 3) := dk_153 0 14 (dk_at dksX1_bits_0 4 rfl rfl)
theorem dX1_bits_7 : decode cX1_bits 7 = .ok (.aload_n 0, 1) := dk_42 (dk_at dksX1_bits_0 7 rfl rfl)
theorem dX1_bits_8 : decode cX1_bits 8 = .ok (.checkcast 323, 3) := dk_192 1 67 (dk_at dksX1_bits_0 8 rfl rfl)
theorem dX1_bits_11 : decode cX1_bits 11 = .ok (.astore_n 2, 1) := dk_77 (dk_at dksX1_bits_0 11 rfl rfl)
theorem dX1_bits_12 : decode cX1_bits 12 = .ok (.aload_n 2, 1) := dk_44 (dk_at dksX1_bits_0 12 rfl rfl)
theorem dX1_bits_13 : decode cX1_bits 13 = .ok (.iload_n 1, 1) := dk_27 (dk_at dksX1_bits_0 13 rfl rfl)
theorem dX1_bits_14 : decode cX1_bits 14 = .ok (.iaload, 1) := dk_46 (dk_at dksX1_bits_0 14 rfl rfl)
theorem dX1_bits_15 : decode cX1_bits 15 = .ok (.goto 12, 3) := dk_167 0 12 (dk_at dksX1_bits_0 15 rfl rfl)
theorem dX1_bits_18 : decode cX1_bits 18 = .ok (.aload_n 0, 1) := dk_42 (dk_at dksX1_bits_0 18 rfl rfl)
theorem dX1_bits_19 : decode cX1_bits 19 = .ok (.checkcast 325, 3) := dk_192 1 69 (dk_at dksX1_bits_0 19 rfl rfl)
theorem dX1_bits_22 : decode cX1_bits 22 = .ok (.iload_n 1, 1) := dk_27 (dk_at dksX1_bits_0 22 rfl rfl)
theorem dX1_bits_23 : decode cX1_bits 23 = .ok (.faload, 1) := dk_48 (dk_at dksX1_bits_0 23 rfl rfl)
theorem dX1_bits_24 : decode cX1_bits 24 = .ok (.invokestatic 219, 3) := dk_184 0 219 (dk_at dksX1_bits_1 0 rfl rfl)
theorem dX1_bits_27 : decode cX1_bits 27 = .ok (.ireturn, 1) := dk_172 (dk_at dksX1_bits_1 3 rfl rfl)
abbrev cX1_element : ByteArray := prog_1_method_47_code
def yX1_element : MethodName := ⟨RX1, "element", "(II)I"⟩
def dkwX1_element_2 : List UInt8 := [27, 50, 28, 184, 1, 87, 172]
abbrev dktX1_element_2 : List UInt8 := dkwX1_element_2 ++ []
def dkwX1_element_1 : List UInt8 := [184, 1, 91, 4, 100, 133, 184, 0, 177, 153, 0, 7, 4, 167, 0, 4, 3, 184, 0, 160, 42, 180, 0, 65]
abbrev dktX1_element_1 : List UInt8 := dkwX1_element_1 ++ dktX1_element_2
def dkwX1_element_0 : List UInt8 := [27, 184, 1, 63, 42, 180, 0, 65, 27, 50, 198, 0, 28, 28, 133, 9, 42, 180, 0, 65, 27, 50]
abbrev dktX1_element_0 : List UInt8 := dkwX1_element_0 ++ dktX1_element_1
theorem dksX1_element_0 : cX1_element.data.toList.drop 0 = dktX1_element_0 := by decide +kernel
theorem dksX1_element_1 : cX1_element.data.toList.drop 22 = dktX1_element_1 := dk_seg dksX1_element_0 22 rfl rfl
theorem dksX1_element_2 : cX1_element.data.toList.drop 46 = dktX1_element_2 := dk_seg dksX1_element_1 24 rfl rfl
theorem dX1_element_0 : decode cX1_element 0 = .ok (.iload_n 1, 1) := dk_27 (dk_at dksX1_element_0 0 rfl rfl)
theorem dX1_element_1 : decode cX1_element 1 = .ok (.invokestatic 319, 3) := dk_184 1 63 (dk_at dksX1_element_0 1 rfl rfl)
theorem dX1_element_4 : decode cX1_element 4 = .ok (.aload_n 0, 1) := dk_42 (dk_at dksX1_element_0 4 rfl rfl)
theorem dX1_element_5 : decode cX1_element 5 = .ok (.getfield 65, 3) := dk_180 0 65 (dk_at dksX1_element_0 5 rfl rfl)
theorem dX1_element_8 : decode cX1_element 8 = .ok (.iload_n 1, 1) := dk_27 (dk_at dksX1_element_0 8 rfl rfl)
theorem dX1_element_9 : decode cX1_element 9 = .ok (.aaload, 1) := dk_50 (dk_at dksX1_element_0 9 rfl rfl)
theorem dX1_element_10 : decode cX1_element 10 = .ok (.ifnull 28, 3) := dk_198 0 28 (dk_at dksX1_element_0 10 rfl rfl)
theorem dX1_element_13 : decode cX1_element 13 = .ok (.iload_n 2, 1) := dk_28 (dk_at dksX1_element_0 13 rfl rfl)
theorem dX1_element_14 : decode cX1_element 14 = .ok (.i2l, 1) := dk_133 (dk_at dksX1_element_0 14 rfl rfl)
theorem dX1_element_15 : decode cX1_element 15 = .ok (.lconst 0, 1) := dk_9 (dk_at dksX1_element_0 15 rfl rfl)
theorem dX1_element_16 : decode cX1_element 16 = .ok (.aload_n 0, 1) := dk_42 (dk_at dksX1_element_0 16 rfl rfl)
theorem dX1_element_17 : decode cX1_element 17 = .ok (.getfield 65, 3) := dk_180 0 65 (dk_at dksX1_element_0 17 rfl rfl)
theorem dX1_element_20 : decode cX1_element 20 = .ok (.iload_n 1, 1) := dk_27 (dk_at dksX1_element_0 20 rfl rfl)
theorem dX1_element_21 : decode cX1_element 21 = .ok (.aaload, 1) := dk_50 (dk_at dksX1_element_0 21 rfl rfl)
theorem dX1_element_22 : decode cX1_element 22 = .ok (.invokestatic 347, 3) := dk_184 1 91 (dk_at dksX1_element_1 0 rfl rfl)
theorem dX1_element_25 : decode cX1_element 25 = .ok (.iconst 1, 1) := dk_4 (dk_at dksX1_element_1 3 rfl rfl)
theorem dX1_element_26 : decode cX1_element 26 = .ok (.isub, 1) := dk_100 (dk_at dksX1_element_1 4 rfl rfl)
theorem dX1_element_27 : decode cX1_element 27 = .ok (.i2l, 1) := dk_133 (dk_at dksX1_element_1 5 rfl rfl)
theorem dX1_element_28 : decode cX1_element 28 = .ok (.invokestatic 177, 3) := dk_184 0 177 (dk_at dksX1_element_1 6 rfl rfl)
theorem dX1_element_31 : decode cX1_element 31 = .ok (.ifCond .eq 7, 3) := dk_153 0 7 (dk_at dksX1_element_1 9 rfl rfl)
theorem dX1_element_34 : decode cX1_element 34 = .ok (.iconst 1, 1) := dk_4 (dk_at dksX1_element_1 12 rfl rfl)
theorem dX1_element_35 : decode cX1_element 35 = .ok (.goto 4, 3) := dk_167 0 4 (dk_at dksX1_element_1 13 rfl rfl)
theorem dX1_element_38 : decode cX1_element 38 = .ok (.iconst 0, 1) := dk_3 (dk_at dksX1_element_1 16 rfl rfl)
theorem dX1_element_39 : decode cX1_element 39 = .ok (.invokestatic 160, 3) := dk_184 0 160 (dk_at dksX1_element_1 17 rfl rfl)
theorem dX1_element_42 : decode cX1_element 42 = .ok (.aload_n 0, 1) := dk_42 (dk_at dksX1_element_1 20 rfl rfl)
theorem dX1_element_43 : decode cX1_element 43 = .ok (.getfield 65, 3) := dk_180 0 65 (dk_at dksX1_element_1 21 rfl rfl)
theorem dX1_element_46 : decode cX1_element 46 = .ok (.iload_n 1, 1) := dk_27 (dk_at dksX1_element_2 0 rfl rfl)
theorem dX1_element_47 : decode cX1_element 47 = .ok (.aaload, 1) := dk_50 (dk_at dksX1_element_2 1 rfl rfl)
theorem dX1_element_48 : decode cX1_element 48 = .ok (.iload_n 2, 1) := dk_28 (dk_at dksX1_element_2 2 rfl rfl)
theorem dX1_element_49 : decode cX1_element 49 = .ok (.invokestatic 343, 3) := dk_184 1 87 (dk_at dksX1_element_2 3 rfl rfl)
theorem dX1_element_52 : decode cX1_element 52 = .ok (.ireturn, 1) := dk_172 (dk_at dksX1_element_2 6 rfl rfl)
abbrev cX1_length : ByteArray := prog_1_method_43_code
def yX1_length : MethodName := ⟨RX1, "length", "(Ljava/lang/Object;)I"⟩
def dkwX1_length_0 : List UInt8 := [42, 193, 1, 67, 153, 0, 13, 42, 192, 1, 67, 76, 43, 190, 167, 0, 8, 42, 192, 1, 69, 190, 172]
abbrev dktX1_length_0 : List UInt8 := dkwX1_length_0 ++ []
theorem dksX1_length_0 : cX1_length.data.toList.drop 0 = dktX1_length_0 := by decide +kernel
theorem dX1_length_0 : decode cX1_length 0 = .ok (.aload_n 0, 1) := dk_42 (dk_at dksX1_length_0 0 rfl rfl)
theorem dX1_length_1 : decode cX1_length 1 = .ok (.instanceof 323, 3) := dk_193 1 67 (dk_at dksX1_length_0 1 rfl rfl)
theorem dX1_length_4 : decode cX1_length 4 = .ok (.ifCond .eq 13, 3) := dk_153 0 13 (dk_at dksX1_length_0 4 rfl rfl)
theorem dX1_length_7 : decode cX1_length 7 = .ok (.aload_n 0, 1) := dk_42 (dk_at dksX1_length_0 7 rfl rfl)
theorem dX1_length_8 : decode cX1_length 8 = .ok (.checkcast 323, 3) := dk_192 1 67 (dk_at dksX1_length_0 8 rfl rfl)
theorem dX1_length_11 : decode cX1_length 11 = .ok (.astore_n 1, 1) := dk_76 (dk_at dksX1_length_0 11 rfl rfl)
theorem dX1_length_12 : decode cX1_length 12 = .ok (.aload_n 1, 1) := dk_43 (dk_at dksX1_length_0 12 rfl rfl)
theorem dX1_length_13 : decode cX1_length 13 = .ok (.arraylength, 1) := dk_190 (dk_at dksX1_length_0 13 rfl rfl)
theorem dX1_length_14 : decode cX1_length 14 = .ok (.goto 8, 3) := dk_167 0 8 (dk_at dksX1_length_0 14 rfl rfl)
theorem dX1_length_17 : decode cX1_length 17 = .ok (.aload_n 0, 1) := dk_42 (dk_at dksX1_length_0 17 rfl rfl)
theorem dX1_length_18 : decode cX1_length 18 = .ok (.checkcast 325, 3) := dk_192 1 69 (dk_at dksX1_length_0 18 rfl rfl)
theorem dX1_length_21 : decode cX1_length 21 = .ok (.arraylength, 1) := dk_190 (dk_at dksX1_length_0 21 rfl rfl)
theorem dX1_length_22 : decode cX1_length 22 = .ok (.ireturn, 1) := dk_172 (dk_at dksX1_length_0 22 rfl rfl)
abbrev cX1_append : ByteArray := prog_1_method_48_code
def yX1_append : MethodName := ⟨RX1, "append", "(I)I"⟩
def dkwX1_append_5 : List UInt8 := [182, 1, 101, 87, 132, 3, 248, 167, 255, 224, 42, 180, 0, 72, 182, 1, 56, 172]
abbrev dktX1_append_5 : List UInt8 := dkwX1_append_5 ++ []
def dkwX1_append_4 : List UInt8 := [155, 0, 34, 27, 29, 124, 17, 0, 255, 126, 54, 4, 21, 4, 153, 0, 14, 42, 180, 0, 72, 21, 4, 146]
abbrev dktX1_append_4 : List UInt8 := dkwX1_append_4 ++ dktX1_append_5
def dkwX1_append_3 : List UInt8 := [182, 1, 56, 28, 96, 16, 60, 163, 0, 7, 4, 167, 0, 4, 3, 184, 1, 25, 16, 24, 62, 29]
abbrev dktX1_append_3 : List UInt8 := dkwX1_append_3 ++ dktX1_append_4
def dkwX1_append_2 : List UInt8 := [21, 4, 154, 0, 7, 3, 167, 0, 4, 4, 96, 61, 132, 3, 248, 167, 255, 199, 42, 180, 0, 72]
abbrev dktX1_append_2 : List UInt8 := dkwX1_append_2 ++ dktX1_append_3
def dkwX1_append_1 : List UInt8 := [21, 4, 133, 20, 1, 94, 20, 1, 96, 184, 0, 177, 153, 0, 7, 4, 167, 0, 4, 3, 184, 1, 98, 28]
abbrev dktX1_append_1 : List UInt8 := dkwX1_append_1 ++ dktX1_append_2
def dkwX1_append_0 : List UInt8 := [3, 61, 16, 24, 62, 29, 155, 0, 59, 27, 29, 124, 17, 0, 255, 126, 54, 4, 21, 4, 153, 0, 18]
abbrev dktX1_append_0 : List UInt8 := dkwX1_append_0 ++ dktX1_append_1
theorem dksX1_append_0 : cX1_append.data.toList.drop 0 = dktX1_append_0 := by decide +kernel
theorem dksX1_append_1 : cX1_append.data.toList.drop 23 = dktX1_append_1 := dk_seg dksX1_append_0 23 rfl rfl
theorem dksX1_append_2 : cX1_append.data.toList.drop 47 = dktX1_append_2 := dk_seg dksX1_append_1 24 rfl rfl
theorem dksX1_append_3 : cX1_append.data.toList.drop 69 = dktX1_append_3 := dk_seg dksX1_append_2 22 rfl rfl
theorem dksX1_append_4 : cX1_append.data.toList.drop 91 = dktX1_append_4 := dk_seg dksX1_append_3 22 rfl rfl
theorem dksX1_append_5 : cX1_append.data.toList.drop 115 = dktX1_append_5 := dk_seg dksX1_append_4 24 rfl rfl
theorem dX1_append_0 : decode cX1_append 0 = .ok (.iconst 0, 1) := dk_3 (dk_at dksX1_append_0 0 rfl rfl)
theorem dX1_append_1 : decode cX1_append 1 = .ok (.istore_n 2, 1) := dk_61 (dk_at dksX1_append_0 1 rfl rfl)
theorem dX1_append_2 : decode cX1_append 2 = .ok (.bipush 24, 2) := dk_16 24 (dk_at dksX1_append_0 2 rfl rfl)
theorem dX1_append_4 : decode cX1_append 4 = .ok (.istore_n 3, 1) := dk_62 (dk_at dksX1_append_0 4 rfl rfl)
theorem dX1_append_5 : decode cX1_append 5 = .ok (.iload_n 3, 1) := dk_29 (dk_at dksX1_append_0 5 rfl rfl)
theorem dX1_append_6 : decode cX1_append 6 = .ok (.ifCond .lt 59, 3) := dk_155 0 59 (dk_at dksX1_append_0 6 rfl rfl)
theorem dX1_append_9 : decode cX1_append 9 = .ok (.iload_n 1, 1) := dk_27 (dk_at dksX1_append_0 9 rfl rfl)
theorem dX1_append_10 : decode cX1_append 10 = .ok (.iload_n 3, 1) := dk_29 (dk_at dksX1_append_0 10 rfl rfl)
theorem dX1_append_11 : decode cX1_append 11 = .ok (.iushr, 1) := dk_124 (dk_at dksX1_append_0 11 rfl rfl)
theorem dX1_append_12 : decode cX1_append 12 = .ok (.sipush 255, 3) := dk_17 0 255 (dk_at dksX1_append_0 12 rfl rfl)
theorem dX1_append_15 : decode cX1_append 15 = .ok (.iand, 1) := dk_126 (dk_at dksX1_append_0 15 rfl rfl)
theorem dX1_append_16 : decode cX1_append 16 = .ok (.istore 4, 2) := dk_54 4 (dk_at dksX1_append_0 16 rfl rfl)
theorem dX1_append_18 : decode cX1_append 18 = .ok (.iload 4, 2) := dk_21 4 (dk_at dksX1_append_0 18 rfl rfl)
theorem dX1_append_20 : decode cX1_append 20 = .ok (.ifCond .eq 18, 3) := dk_153 0 18 (dk_at dksX1_append_0 20 rfl rfl)
theorem dX1_append_23 : decode cX1_append 23 = .ok (.iload 4, 2) := dk_21 4 (dk_at dksX1_append_1 0 rfl rfl)
theorem dX1_append_25 : decode cX1_append 25 = .ok (.i2l, 1) := dk_133 (dk_at dksX1_append_1 2 rfl rfl)
theorem dX1_append_26 : decode cX1_append 26 = .ok (.ldc2_w 350, 3) := dk_20 1 94 (dk_at dksX1_append_1 3 rfl rfl)
theorem dX1_append_29 : decode cX1_append 29 = .ok (.ldc2_w 352, 3) := dk_20 1 96 (dk_at dksX1_append_1 6 rfl rfl)
theorem dX1_append_32 : decode cX1_append 32 = .ok (.invokestatic 177, 3) := dk_184 0 177 (dk_at dksX1_append_1 9 rfl rfl)
theorem dX1_append_35 : decode cX1_append 35 = .ok (.ifCond .eq 7, 3) := dk_153 0 7 (dk_at dksX1_append_1 12 rfl rfl)
theorem dX1_append_38 : decode cX1_append 38 = .ok (.iconst 1, 1) := dk_4 (dk_at dksX1_append_1 15 rfl rfl)
theorem dX1_append_39 : decode cX1_append 39 = .ok (.goto 4, 3) := dk_167 0 4 (dk_at dksX1_append_1 16 rfl rfl)
theorem dX1_append_42 : decode cX1_append 42 = .ok (.iconst 0, 1) := dk_3 (dk_at dksX1_append_1 19 rfl rfl)
theorem dX1_append_43 : decode cX1_append 43 = .ok (.invokestatic 354, 3) := dk_184 1 98 (dk_at dksX1_append_1 20 rfl rfl)
theorem dX1_append_46 : decode cX1_append 46 = .ok (.iload_n 2, 1) := dk_28 (dk_at dksX1_append_1 23 rfl rfl)
theorem dX1_append_47 : decode cX1_append 47 = .ok (.iload 4, 2) := dk_21 4 (dk_at dksX1_append_2 0 rfl rfl)
theorem dX1_append_49 : decode cX1_append 49 = .ok (.ifCond .ne 7, 3) := dk_154 0 7 (dk_at dksX1_append_2 2 rfl rfl)
theorem dX1_append_52 : decode cX1_append 52 = .ok (.iconst 0, 1) := dk_3 (dk_at dksX1_append_2 5 rfl rfl)
theorem dX1_append_53 : decode cX1_append 53 = .ok (.goto 4, 3) := dk_167 0 4 (dk_at dksX1_append_2 6 rfl rfl)
theorem dX1_append_56 : decode cX1_append 56 = .ok (.iconst 1, 1) := dk_4 (dk_at dksX1_append_2 9 rfl rfl)
theorem dX1_append_57 : decode cX1_append 57 = .ok (.iadd, 1) := dk_96 (dk_at dksX1_append_2 10 rfl rfl)
theorem dX1_append_58 : decode cX1_append 58 = .ok (.istore_n 2, 1) := dk_61 (dk_at dksX1_append_2 11 rfl rfl)
theorem dX1_append_59 : decode cX1_append 59 = .ok (.iinc 3 (-8), 3) := dk_132 3 248 (dk_at dksX1_append_2 12 rfl rfl)
theorem dX1_append_62 : decode cX1_append 62 = .ok (.goto (-57), 3) := dk_167 255 199 (dk_at dksX1_append_2 15 rfl rfl)
theorem dX1_append_65 : decode cX1_append 65 = .ok (.aload_n 0, 1) := dk_42 (dk_at dksX1_append_2 18 rfl rfl)
theorem dX1_append_66 : decode cX1_append 66 = .ok (.getfield 72, 3) := dk_180 0 72 (dk_at dksX1_append_2 19 rfl rfl)
theorem dX1_append_69 : decode cX1_append 69 = .ok (.invokevirtual 312, 3) := dk_182 1 56 (dk_at dksX1_append_3 0 rfl rfl)
theorem dX1_append_72 : decode cX1_append 72 = .ok (.iload_n 2, 1) := dk_28 (dk_at dksX1_append_3 3 rfl rfl)
theorem dX1_append_73 : decode cX1_append 73 = .ok (.iadd, 1) := dk_96 (dk_at dksX1_append_3 4 rfl rfl)
theorem dX1_append_74 : decode cX1_append 74 = .ok (.bipush 60, 2) := dk_16 60 (dk_at dksX1_append_3 5 rfl rfl)
theorem dX1_append_76 : decode cX1_append 76 = .ok (.if_icmp .gt 7, 3) := dk_163 0 7 (dk_at dksX1_append_3 7 rfl rfl)
theorem dX1_append_79 : decode cX1_append 79 = .ok (.iconst 1, 1) := dk_4 (dk_at dksX1_append_3 10 rfl rfl)
theorem dX1_append_80 : decode cX1_append 80 = .ok (.goto 4, 3) := dk_167 0 4 (dk_at dksX1_append_3 11 rfl rfl)
theorem dX1_append_83 : decode cX1_append 83 = .ok (.iconst 0, 1) := dk_3 (dk_at dksX1_append_3 14 rfl rfl)
theorem dX1_append_84 : decode cX1_append 84 = .ok (.invokestatic 281, 3) := dk_184 1 25 (dk_at dksX1_append_3 15 rfl rfl)
theorem dX1_append_87 : decode cX1_append 87 = .ok (.bipush 24, 2) := dk_16 24 (dk_at dksX1_append_3 18 rfl rfl)
theorem dX1_append_89 : decode cX1_append 89 = .ok (.istore_n 3, 1) := dk_62 (dk_at dksX1_append_3 20 rfl rfl)
theorem dX1_append_90 : decode cX1_append 90 = .ok (.iload_n 3, 1) := dk_29 (dk_at dksX1_append_3 21 rfl rfl)
theorem dX1_append_91 : decode cX1_append 91 = .ok (.ifCond .lt 34, 3) := dk_155 0 34 (dk_at dksX1_append_4 0 rfl rfl)
theorem dX1_append_94 : decode cX1_append 94 = .ok (.iload_n 1, 1) := dk_27 (dk_at dksX1_append_4 3 rfl rfl)
theorem dX1_append_95 : decode cX1_append 95 = .ok (.iload_n 3, 1) := dk_29 (dk_at dksX1_append_4 4 rfl rfl)
theorem dX1_append_96 : decode cX1_append 96 = .ok (.iushr, 1) := dk_124 (dk_at dksX1_append_4 5 rfl rfl)
theorem dX1_append_97 : decode cX1_append 97 = .ok (.sipush 255, 3) := dk_17 0 255 (dk_at dksX1_append_4 6 rfl rfl)
theorem dX1_append_100 : decode cX1_append 100 = .ok (.iand, 1) := dk_126 (dk_at dksX1_append_4 9 rfl rfl)
theorem dX1_append_101 : decode cX1_append 101 = .ok (.istore 4, 2) := dk_54 4 (dk_at dksX1_append_4 10 rfl rfl)
theorem dX1_append_103 : decode cX1_append 103 = .ok (.iload 4, 2) := dk_21 4 (dk_at dksX1_append_4 12 rfl rfl)
theorem dX1_append_105 : decode cX1_append 105 = .ok (.ifCond .eq 14, 3) := dk_153 0 14 (dk_at dksX1_append_4 14 rfl rfl)
theorem dX1_append_108 : decode cX1_append 108 = .ok (.aload_n 0, 1) := dk_42 (dk_at dksX1_append_4 17 rfl rfl)
theorem dX1_append_109 : decode cX1_append 109 = .ok (.getfield 72, 3) := dk_180 0 72 (dk_at dksX1_append_4 18 rfl rfl)
theorem dX1_append_112 : decode cX1_append 112 = .ok (.iload 4, 2) := dk_21 4 (dk_at dksX1_append_4 21 rfl rfl)
theorem dX1_append_114 : decode cX1_append 114 = .ok (.i2c, 1) := dk_146 (dk_at dksX1_append_4 23 rfl rfl)
theorem dX1_append_115 : decode cX1_append 115 = .ok (.invokevirtual 357, 3) := dk_182 1 101 (dk_at dksX1_append_5 0 rfl rfl)
theorem dX1_append_118 : decode cX1_append 118 = .ok (.pop, 1) := dk_87 (dk_at dksX1_append_5 3 rfl rfl)
theorem dX1_append_119 : decode cX1_append 119 = .ok (.iinc 3 (-8), 3) := dk_132 3 248 (dk_at dksX1_append_5 4 rfl rfl)
theorem dX1_append_122 : decode cX1_append 122 = .ok (.goto (-32), 3) := dk_167 255 224 (dk_at dksX1_append_5 7 rfl rfl)
theorem dX1_append_125 : decode cX1_append 125 = .ok (.aload_n 0, 1) := dk_42 (dk_at dksX1_append_5 10 rfl rfl)
theorem dX1_append_126 : decode cX1_append 126 = .ok (.getfield 72, 3) := dk_180 0 72 (dk_at dksX1_append_5 11 rfl rfl)
theorem dX1_append_129 : decode cX1_append 129 = .ok (.invokevirtual 312, 3) := dk_182 1 56 (dk_at dksX1_append_5 14 rfl rfl)
theorem dX1_append_132 : decode cX1_append 132 = .ok (.ireturn, 1) := dk_172 (dk_at dksX1_append_5 17 rfl rfl)
abbrev cX1_read : ByteArray := prog_1_method_50_code
def yX1_read : MethodName := ⟨RX1, "read", "()I"⟩
def dkwX1_read_4 : List UInt8 := [183, 0, 115, 191, 42, 44, 182, 0, 116, 29, 172]
abbrev dktX1_read_4 : List UInt8 := dkwX1_read_4 ++ []
def dkwX1_read_3 : List UInt8 := [181, 0, 109, 187, 0, 113, 89, 183, 0, 115, 191, 58, 4, 42, 29, 181, 0, 82, 187, 0, 113, 89]
abbrev dktX1_read_3 : List UInt8 := dkwX1_read_3 ++ dktX1_read_4
def dkwX1_read_2 : List UInt8 := [182, 0, 101, 54, 6, 132, 3, 1, 167, 255, 223, 167, 0, 39, 58, 4, 42, 29, 181, 0, 82, 42, 25, 4]
abbrev dktX1_read_2 : List UInt8 := dkwX1_read_2 ++ dktX1_read_3
def dkwX1_read_1 : List UInt8 := [185, 0, 25, 1, 0, 153, 0, 29, 25, 4, 185, 0, 31, 1, 0, 192, 0, 102, 58, 5, 25, 5, 44]
abbrev dktX1_read_1 : List UInt8 := dkwX1_read_1 ++ dktX1_read_2
def dkwX1_read_0 : List UInt8 := [42, 182, 1, 109, 76, 42, 180, 0, 52, 182, 0, 97, 77, 3, 62, 43, 182, 0, 19, 58, 4, 25, 4]
abbrev dktX1_read_0 : List UInt8 := dkwX1_read_0 ++ dktX1_read_1
theorem dksX1_read_0 : cX1_read.data.toList.drop 0 = dktX1_read_0 := by decide +kernel
theorem dksX1_read_1 : cX1_read.data.toList.drop 23 = dktX1_read_1 := dk_seg dksX1_read_0 23 rfl rfl
theorem dksX1_read_2 : cX1_read.data.toList.drop 46 = dktX1_read_2 := dk_seg dksX1_read_1 23 rfl rfl
theorem dksX1_read_3 : cX1_read.data.toList.drop 70 = dktX1_read_3 := dk_seg dksX1_read_2 24 rfl rfl
theorem dksX1_read_4 : cX1_read.data.toList.drop 92 = dktX1_read_4 := dk_seg dksX1_read_3 22 rfl rfl
theorem dX1_read_0 : decode cX1_read 0 = .ok (.aload_n 0, 1) := dk_42 (dk_at dksX1_read_0 0 rfl rfl)
theorem dX1_read_1 : decode cX1_read 1 = .ok (.invokevirtual 365, 3) := dk_182 1 109 (dk_at dksX1_read_0 1 rfl rfl)
theorem dX1_read_4 : decode cX1_read 4 = .ok (.astore_n 1, 1) := dk_76 (dk_at dksX1_read_0 4 rfl rfl)
theorem dX1_read_5 : decode cX1_read 5 = .ok (.aload_n 0, 1) := dk_42 (dk_at dksX1_read_0 5 rfl rfl)
theorem dX1_read_6 : decode cX1_read 6 = .ok (.getfield 52, 3) := dk_180 0 52 (dk_at dksX1_read_0 6 rfl rfl)
theorem dX1_read_9 : decode cX1_read 9 = .ok (.invokevirtual 97, 3) := dk_182 0 97 (dk_at dksX1_read_0 9 rfl rfl)
theorem dX1_read_12 : decode cX1_read 12 = .ok (.astore_n 2, 1) := dk_77 (dk_at dksX1_read_0 12 rfl rfl)
theorem dX1_read_13 : decode cX1_read 13 = .ok (.iconst 0, 1) := dk_3 (dk_at dksX1_read_0 13 rfl rfl)
theorem dX1_read_14 : decode cX1_read 14 = .ok (.istore_n 3, 1) := dk_62 (dk_at dksX1_read_0 14 rfl rfl)
theorem dX1_read_15 : decode cX1_read 15 = .ok (.aload_n 1, 1) := dk_43 (dk_at dksX1_read_0 15 rfl rfl)
theorem dX1_read_16 : decode cX1_read 16 = .ok (.invokevirtual 19, 3) := dk_182 0 19 (dk_at dksX1_read_0 16 rfl rfl)
theorem dX1_read_19 : decode cX1_read 19 = .ok (.astore 4, 2) := dk_58 4 (dk_at dksX1_read_0 19 rfl rfl)
theorem dX1_read_21 : decode cX1_read 21 = .ok (.aload 4, 2) := dk_25 4 (dk_at dksX1_read_0 21 rfl rfl)
theorem dX1_read_23 : decode cX1_read 23 = .ok (.invokeinterface 25 1, 5) := by decide +kernel
theorem dX1_read_28 : decode cX1_read 28 = .ok (.ifCond .eq 29, 3) := dk_153 0 29 (dk_at dksX1_read_1 5 rfl rfl)
theorem dX1_read_31 : decode cX1_read 31 = .ok (.aload 4, 2) := dk_25 4 (dk_at dksX1_read_1 8 rfl rfl)
theorem dX1_read_33 : decode cX1_read 33 = .ok (.invokeinterface 31 1, 5) := by decide +kernel
theorem dX1_read_38 : decode cX1_read 38 = .ok (.checkcast 102, 3) := dk_192 0 102 (dk_at dksX1_read_1 15 rfl rfl)
theorem dX1_read_41 : decode cX1_read 41 = .ok (.astore 5, 2) := dk_58 5 (dk_at dksX1_read_1 18 rfl rfl)
theorem dX1_read_43 : decode cX1_read 43 = .ok (.aload 5, 2) := dk_25 5 (dk_at dksX1_read_1 20 rfl rfl)
theorem dX1_read_45 : decode cX1_read 45 = .ok (.aload_n 2, 1) := dk_44 (dk_at dksX1_read_1 22 rfl rfl)
theorem dX1_read_46 : decode cX1_read 46 = .ok (.invokevirtual 101, 3) := dk_182 0 101 (dk_at dksX1_read_2 0 rfl rfl)
theorem dX1_read_49 : decode cX1_read 49 = .ok (.istore 6, 2) := dk_54 6 (dk_at dksX1_read_2 3 rfl rfl)
theorem dX1_read_51 : decode cX1_read 51 = .ok (.iinc 3 1, 3) := dk_132 3 1 (dk_at dksX1_read_2 5 rfl rfl)
theorem dX1_read_54 : decode cX1_read 54 = .ok (.goto (-33), 3) := dk_167 255 223 (dk_at dksX1_read_2 8 rfl rfl)
theorem dX1_read_57 : decode cX1_read 57 = .ok (.goto 39, 3) := dk_167 0 39 (dk_at dksX1_read_2 11 rfl rfl)
theorem dX1_read_60 : decode cX1_read 60 = .ok (.astore 4, 2) := dk_58 4 (dk_at dksX1_read_2 14 rfl rfl)
theorem dX1_read_62 : decode cX1_read 62 = .ok (.aload_n 0, 1) := dk_42 (dk_at dksX1_read_2 16 rfl rfl)
theorem dX1_read_63 : decode cX1_read 63 = .ok (.iload_n 3, 1) := dk_29 (dk_at dksX1_read_2 17 rfl rfl)
theorem dX1_read_64 : decode cX1_read 64 = .ok (.putfield 82, 3) := dk_181 0 82 (dk_at dksX1_read_2 18 rfl rfl)
theorem dX1_read_67 : decode cX1_read 67 = .ok (.aload_n 0, 1) := dk_42 (dk_at dksX1_read_2 21 rfl rfl)
theorem dX1_read_68 : decode cX1_read 68 = .ok (.aload 4, 2) := dk_25 4 (dk_at dksX1_read_2 22 rfl rfl)
theorem dX1_read_70 : decode cX1_read 70 = .ok (.putfield 109, 3) := dk_181 0 109 (dk_at dksX1_read_3 0 rfl rfl)
theorem dX1_read_73 : decode cX1_read 73 = .ok (.new 113, 3) := dk_187 0 113 (dk_at dksX1_read_3 3 rfl rfl)
theorem dX1_read_76 : decode cX1_read 76 = .ok (.dup, 1) := dk_89 (dk_at dksX1_read_3 6 rfl rfl)
theorem dX1_read_77 : decode cX1_read 77 = .ok (.invokespecial 115, 3) := dk_183 0 115 (dk_at dksX1_read_3 7 rfl rfl)
theorem dX1_read_80 : decode cX1_read 80 = .ok (.athrow, 1) := dk_191 (dk_at dksX1_read_3 10 rfl rfl)
theorem dX1_read_81 : decode cX1_read 81 = .ok (.astore 4, 2) := dk_58 4 (dk_at dksX1_read_3 11 rfl rfl)
theorem dX1_read_83 : decode cX1_read 83 = .ok (.aload_n 0, 1) := dk_42 (dk_at dksX1_read_3 13 rfl rfl)
theorem dX1_read_84 : decode cX1_read 84 = .ok (.iload_n 3, 1) := dk_29 (dk_at dksX1_read_3 14 rfl rfl)
theorem dX1_read_85 : decode cX1_read 85 = .ok (.putfield 82, 3) := dk_181 0 82 (dk_at dksX1_read_3 15 rfl rfl)
theorem dX1_read_88 : decode cX1_read 88 = .ok (.new 113, 3) := dk_187 0 113 (dk_at dksX1_read_3 18 rfl rfl)
theorem dX1_read_91 : decode cX1_read 91 = .ok (.dup, 1) := dk_89 (dk_at dksX1_read_3 21 rfl rfl)
theorem dX1_read_92 : decode cX1_read 92 = .ok (.invokespecial 115, 3) := dk_183 0 115 (dk_at dksX1_read_4 0 rfl rfl)
theorem dX1_read_95 : decode cX1_read 95 = .ok (.athrow, 1) := dk_191 (dk_at dksX1_read_4 3 rfl rfl)
theorem dX1_read_96 : decode cX1_read 96 = .ok (.aload_n 0, 1) := dk_42 (dk_at dksX1_read_4 4 rfl rfl)
theorem dX1_read_97 : decode cX1_read 97 = .ok (.aload_n 2, 1) := dk_44 (dk_at dksX1_read_4 5 rfl rfl)
theorem dX1_read_98 : decode cX1_read 98 = .ok (.invokevirtual 116, 3) := dk_182 0 116 (dk_at dksX1_read_4 6 rfl rfl)
theorem dX1_read_101 : decode cX1_read 101 = .ok (.iload_n 3, 1) := dk_29 (dk_at dksX1_read_4 9 rfl rfl)
theorem dX1_read_102 : decode cX1_read 102 = .ok (.ireturn, 1) := dk_172 (dk_at dksX1_read_4 10 rfl rfl)
abbrev cX1_takeItems : ByteArray := prog_1_method_49_code
def yX1_takeItems : MethodName := ⟨RX1, "takeItems", "()Ljava/util/ArrayList;"⟩
def dkwX1_takeItems_0 : List UInt8 := [42, 182, 0, 133, 182, 1, 105, 176, 76, 42, 43, 181, 0, 143, 187, 0, 1, 89, 183, 0, 3, 191]
abbrev dktX1_takeItems_0 : List UInt8 := dkwX1_takeItems_0 ++ []
theorem dksX1_takeItems_0 : cX1_takeItems.data.toList.drop 0 = dktX1_takeItems_0 := by decide +kernel
theorem dX1_takeItems_0 : decode cX1_takeItems 0 = .ok (.aload_n 0, 1) := dk_42 (dk_at dksX1_takeItems_0 0 rfl rfl)
theorem dX1_takeItems_1 : decode cX1_takeItems 1 = .ok (.invokevirtual 133, 3) := dk_182 0 133 (dk_at dksX1_takeItems_0 1 rfl rfl)
theorem dX1_takeItems_4 : decode cX1_takeItems 4 = .ok (.invokevirtual 361, 3) := dk_182 1 105 (dk_at dksX1_takeItems_0 4 rfl rfl)
theorem dX1_takeItems_7 : decode cX1_takeItems 7 = .ok (.areturn, 1) := dk_176 (dk_at dksX1_takeItems_0 7 rfl rfl)
theorem dX1_takeItems_8 : decode cX1_takeItems 8 = .ok (.astore_n 1, 1) := dk_76 (dk_at dksX1_takeItems_0 8 rfl rfl)
theorem dX1_takeItems_9 : decode cX1_takeItems 9 = .ok (.aload_n 0, 1) := dk_42 (dk_at dksX1_takeItems_0 9 rfl rfl)
theorem dX1_takeItems_10 : decode cX1_takeItems 10 = .ok (.aload_n 1, 1) := dk_43 (dk_at dksX1_takeItems_0 10 rfl rfl)
theorem dX1_takeItems_11 : decode cX1_takeItems 11 = .ok (.putfield 143, 3) := dk_181 0 143 (dk_at dksX1_takeItems_0 11 rfl rfl)
theorem dX1_takeItems_14 : decode cX1_takeItems 14 = .ok (.new 1, 3) := dk_187 0 1 (dk_at dksX1_takeItems_0 14 rfl rfl)
theorem dX1_takeItems_17 : decode cX1_takeItems 17 = .ok (.dup, 1) := dk_89 (dk_at dksX1_takeItems_0 17 rfl rfl)
theorem dX1_takeItems_18 : decode cX1_takeItems 18 = .ok (.invokespecial 3, 3) := dk_183 0 3 (dk_at dksX1_takeItems_0 18 rfl rfl)
theorem dX1_takeItems_21 : decode cX1_takeItems 21 = .ok (.athrow, 1) := dk_191 (dk_at dksX1_takeItems_0 21 rfl rfl)
abbrev cX1_errorPosition : ByteArray := prog_1_method_51_code
def yX1_errorPosition : MethodName := ⟨RX1, "errorPosition", "()I"⟩
def dkwX1_errorPosition_0 : List UInt8 := [42, 180, 0, 143, 198, 0, 7, 4, 167, 0, 4, 3, 184, 0, 160, 42, 180, 0, 143, 180, 1, 112, 172]
abbrev dktX1_errorPosition_0 : List UInt8 := dkwX1_errorPosition_0 ++ []
theorem dksX1_errorPosition_0 : cX1_errorPosition.data.toList.drop 0 = dktX1_errorPosition_0 := by decide +kernel
theorem dX1_errorPosition_0 : decode cX1_errorPosition 0 = .ok (.aload_n 0, 1) := dk_42 (dk_at dksX1_errorPosition_0 0 rfl rfl)
theorem dX1_errorPosition_1 : decode cX1_errorPosition 1 = .ok (.getfield 143, 3) := dk_180 0 143 (dk_at dksX1_errorPosition_0 1 rfl rfl)
theorem dX1_errorPosition_4 : decode cX1_errorPosition 4 = .ok (.ifnull 7, 3) := dk_198 0 7 (dk_at dksX1_errorPosition_0 4 rfl rfl)
theorem dX1_errorPosition_7 : decode cX1_errorPosition 7 = .ok (.iconst 1, 1) := dk_4 (dk_at dksX1_errorPosition_0 7 rfl rfl)
theorem dX1_errorPosition_8 : decode cX1_errorPosition 8 = .ok (.goto 4, 3) := dk_167 0 4 (dk_at dksX1_errorPosition_0 8 rfl rfl)
theorem dX1_errorPosition_11 : decode cX1_errorPosition 11 = .ok (.iconst 0, 1) := dk_3 (dk_at dksX1_errorPosition_0 11 rfl rfl)
theorem dX1_errorPosition_12 : decode cX1_errorPosition 12 = .ok (.invokestatic 160, 3) := dk_184 0 160 (dk_at dksX1_errorPosition_0 12 rfl rfl)
theorem dX1_errorPosition_15 : decode cX1_errorPosition 15 = .ok (.aload_n 0, 1) := dk_42 (dk_at dksX1_errorPosition_0 15 rfl rfl)
theorem dX1_errorPosition_16 : decode cX1_errorPosition 16 = .ok (.getfield 143, 3) := dk_180 0 143 (dk_at dksX1_errorPosition_0 16 rfl rfl)
theorem dX1_errorPosition_19 : decode cX1_errorPosition 19 = .ok (.getfield 368, 3) := dk_180 1 112 (dk_at dksX1_errorPosition_0 19 rfl rfl)
theorem dX1_errorPosition_22 : decode cX1_errorPosition 22 = .ok (.ireturn, 1) := dk_172 (dk_at dksX1_errorPosition_0 22 rfl rfl)
abbrev cX1_refusedItem : ByteArray := prog_1_method_52_code
def yX1_refusedItem : MethodName := ⟨RX1, "refusedItem", "()I"⟩
def dkwX1_refusedItem_0 : List UInt8 := [42, 180, 0, 82, 2, 159, 0, 7, 4, 167, 0, 4, 3, 184, 0, 160, 42, 180, 0, 82, 172]
abbrev dktX1_refusedItem_0 : List UInt8 := dkwX1_refusedItem_0 ++ []
theorem dksX1_refusedItem_0 : cX1_refusedItem.data.toList.drop 0 = dktX1_refusedItem_0 := by decide +kernel
theorem dX1_refusedItem_0 : decode cX1_refusedItem 0 = .ok (.aload_n 0, 1) := dk_42 (dk_at dksX1_refusedItem_0 0 rfl rfl)
theorem dX1_refusedItem_1 : decode cX1_refusedItem 1 = .ok (.getfield 82, 3) := dk_180 0 82 (dk_at dksX1_refusedItem_0 1 rfl rfl)
theorem dX1_refusedItem_4 : decode cX1_refusedItem 4 = .ok (.iconst (-1), 1) := dk_2 (dk_at dksX1_refusedItem_0 4 rfl rfl)
theorem dX1_refusedItem_5 : decode cX1_refusedItem 5 = .ok (.if_icmp .eq 7, 3) := dk_159 0 7 (dk_at dksX1_refusedItem_0 5 rfl rfl)
theorem dX1_refusedItem_8 : decode cX1_refusedItem 8 = .ok (.iconst 1, 1) := dk_4 (dk_at dksX1_refusedItem_0 8 rfl rfl)
theorem dX1_refusedItem_9 : decode cX1_refusedItem 9 = .ok (.goto 4, 3) := dk_167 0 4 (dk_at dksX1_refusedItem_0 9 rfl rfl)
theorem dX1_refusedItem_12 : decode cX1_refusedItem 12 = .ok (.iconst 0, 1) := dk_3 (dk_at dksX1_refusedItem_0 12 rfl rfl)
theorem dX1_refusedItem_13 : decode cX1_refusedItem 13 = .ok (.invokestatic 160, 3) := dk_184 0 160 (dk_at dksX1_refusedItem_0 13 rfl rfl)
theorem dX1_refusedItem_16 : decode cX1_refusedItem 16 = .ok (.aload_n 0, 1) := dk_42 (dk_at dksX1_refusedItem_0 16 rfl rfl)
theorem dX1_refusedItem_17 : decode cX1_refusedItem 17 = .ok (.getfield 82, 3) := dk_180 0 82 (dk_at dksX1_refusedItem_0 17 rfl rfl)
theorem dX1_refusedItem_20 : decode cX1_refusedItem 20 = .ok (.ireturn, 1) := dk_172 (dk_at dksX1_refusedItem_0 20 rfl rfl)
abbrev cX1_undo : ByteArray := prog_1_method_53_code
def yX1_undo : MethodName := ⟨RX1, "undo", "()I"⟩
def dkwX1_undo_1 : List UInt8 := [182, 1, 116, 192, 0, 49, 181, 0, 52, 42, 180, 0, 61, 182, 0, 86, 172]
abbrev dktX1_undo_1 : List UInt8 := dkwX1_undo_1 ++ []
def dkwX1_undo_0 : List UInt8 := [42, 180, 0, 61, 182, 1, 115, 154, 0, 7, 4, 167, 0, 4, 3, 184, 1, 25, 42, 42, 180, 0, 61]
abbrev dktX1_undo_0 : List UInt8 := dkwX1_undo_0 ++ dktX1_undo_1
theorem dksX1_undo_0 : cX1_undo.data.toList.drop 0 = dktX1_undo_0 := by decide +kernel
theorem dksX1_undo_1 : cX1_undo.data.toList.drop 23 = dktX1_undo_1 := dk_seg dksX1_undo_0 23 rfl rfl
theorem dX1_undo_0 : decode cX1_undo 0 = .ok (.aload_n 0, 1) := dk_42 (dk_at dksX1_undo_0 0 rfl rfl)
theorem dX1_undo_1 : decode cX1_undo 1 = .ok (.getfield 61, 3) := dk_180 0 61 (dk_at dksX1_undo_0 1 rfl rfl)
theorem dX1_undo_4 : decode cX1_undo 4 = .ok (.invokevirtual 371, 3) := dk_182 1 115 (dk_at dksX1_undo_0 4 rfl rfl)
theorem dX1_undo_7 : decode cX1_undo 7 = .ok (.ifCond .ne 7, 3) := dk_154 0 7 (dk_at dksX1_undo_0 7 rfl rfl)
theorem dX1_undo_10 : decode cX1_undo 10 = .ok (.iconst 1, 1) := dk_4 (dk_at dksX1_undo_0 10 rfl rfl)
theorem dX1_undo_11 : decode cX1_undo 11 = .ok (.goto 4, 3) := dk_167 0 4 (dk_at dksX1_undo_0 11 rfl rfl)
theorem dX1_undo_14 : decode cX1_undo 14 = .ok (.iconst 0, 1) := dk_3 (dk_at dksX1_undo_0 14 rfl rfl)
theorem dX1_undo_15 : decode cX1_undo 15 = .ok (.invokestatic 281, 3) := dk_184 1 25 (dk_at dksX1_undo_0 15 rfl rfl)
theorem dX1_undo_18 : decode cX1_undo 18 = .ok (.aload_n 0, 1) := dk_42 (dk_at dksX1_undo_0 18 rfl rfl)
theorem dX1_undo_19 : decode cX1_undo 19 = .ok (.aload_n 0, 1) := dk_42 (dk_at dksX1_undo_0 19 rfl rfl)
theorem dX1_undo_20 : decode cX1_undo 20 = .ok (.getfield 61, 3) := dk_180 0 61 (dk_at dksX1_undo_0 20 rfl rfl)
theorem dX1_undo_23 : decode cX1_undo 23 = .ok (.invokevirtual 372, 3) := dk_182 1 116 (dk_at dksX1_undo_1 0 rfl rfl)
theorem dX1_undo_26 : decode cX1_undo 26 = .ok (.checkcast 49, 3) := dk_192 0 49 (dk_at dksX1_undo_1 3 rfl rfl)
theorem dX1_undo_29 : decode cX1_undo 29 = .ok (.putfield 52, 3) := dk_181 0 52 (dk_at dksX1_undo_1 6 rfl rfl)
theorem dX1_undo_32 : decode cX1_undo 32 = .ok (.aload_n 0, 1) := dk_42 (dk_at dksX1_undo_1 9 rfl rfl)
theorem dX1_undo_33 : decode cX1_undo 33 = .ok (.getfield 61, 3) := dk_180 0 61 (dk_at dksX1_undo_1 10 rfl rfl)
theorem dX1_undo_36 : decode cX1_undo 36 = .ok (.invokevirtual 86, 3) := dk_182 0 86 (dk_at dksX1_undo_1 13 rfl rfl)
theorem dX1_undo_39 : decode cX1_undo 39 = .ok (.ireturn, 1) := dk_172 (dk_at dksX1_undo_1 16 rfl rfl)
abbrev cX1_restore : ByteArray := prog_1_method_55_code
def yX1_restore : MethodName := ⟨RX1, "restore", "()I"⟩
def dkwX1_restore_1 : List UInt8 := [180, 0, 61, 182, 0, 130, 42, 180, 0, 52, 180, 0, 125, 182, 0, 129, 172]
abbrev dktX1_restore_1 : List UInt8 := dkwX1_restore_1 ++ []
def dkwX1_restore_0 : List UInt8 := [42, 180, 1, 119, 198, 0, 7, 4, 167, 0, 4, 3, 184, 1, 25, 42, 42, 180, 1, 119, 181, 0, 52, 42]
abbrev dktX1_restore_0 : List UInt8 := dkwX1_restore_0 ++ dktX1_restore_1
theorem dksX1_restore_0 : cX1_restore.data.toList.drop 0 = dktX1_restore_0 := by decide +kernel
theorem dksX1_restore_1 : cX1_restore.data.toList.drop 24 = dktX1_restore_1 := dk_seg dksX1_restore_0 24 rfl rfl
theorem dX1_restore_0 : decode cX1_restore 0 = .ok (.aload_n 0, 1) := dk_42 (dk_at dksX1_restore_0 0 rfl rfl)
theorem dX1_restore_1 : decode cX1_restore 1 = .ok (.getfield 375, 3) := dk_180 1 119 (dk_at dksX1_restore_0 1 rfl rfl)
theorem dX1_restore_4 : decode cX1_restore 4 = .ok (.ifnull 7, 3) := dk_198 0 7 (dk_at dksX1_restore_0 4 rfl rfl)
theorem dX1_restore_7 : decode cX1_restore 7 = .ok (.iconst 1, 1) := dk_4 (dk_at dksX1_restore_0 7 rfl rfl)
theorem dX1_restore_8 : decode cX1_restore 8 = .ok (.goto 4, 3) := dk_167 0 4 (dk_at dksX1_restore_0 8 rfl rfl)
theorem dX1_restore_11 : decode cX1_restore 11 = .ok (.iconst 0, 1) := dk_3 (dk_at dksX1_restore_0 11 rfl rfl)
theorem dX1_restore_12 : decode cX1_restore 12 = .ok (.invokestatic 281, 3) := dk_184 1 25 (dk_at dksX1_restore_0 12 rfl rfl)
theorem dX1_restore_15 : decode cX1_restore 15 = .ok (.aload_n 0, 1) := dk_42 (dk_at dksX1_restore_0 15 rfl rfl)
theorem dX1_restore_16 : decode cX1_restore 16 = .ok (.aload_n 0, 1) := dk_42 (dk_at dksX1_restore_0 16 rfl rfl)
theorem dX1_restore_17 : decode cX1_restore 17 = .ok (.getfield 375, 3) := dk_180 1 119 (dk_at dksX1_restore_0 17 rfl rfl)
theorem dX1_restore_20 : decode cX1_restore 20 = .ok (.putfield 52, 3) := dk_181 0 52 (dk_at dksX1_restore_0 20 rfl rfl)
theorem dX1_restore_23 : decode cX1_restore 23 = .ok (.aload_n 0, 1) := dk_42 (dk_at dksX1_restore_0 23 rfl rfl)
theorem dX1_restore_24 : decode cX1_restore 24 = .ok (.getfield 61, 3) := dk_180 0 61 (dk_at dksX1_restore_1 0 rfl rfl)
theorem dX1_restore_27 : decode cX1_restore 27 = .ok (.invokevirtual 130, 3) := dk_182 0 130 (dk_at dksX1_restore_1 3 rfl rfl)
theorem dX1_restore_30 : decode cX1_restore 30 = .ok (.aload_n 0, 1) := dk_42 (dk_at dksX1_restore_1 6 rfl rfl)
theorem dX1_restore_31 : decode cX1_restore 31 = .ok (.getfield 52, 3) := dk_180 0 52 (dk_at dksX1_restore_1 7 rfl rfl)
theorem dX1_restore_34 : decode cX1_restore 34 = .ok (.getfield 125, 3) := dk_180 0 125 (dk_at dksX1_restore_1 10 rfl rfl)
theorem dX1_restore_37 : decode cX1_restore 37 = .ok (.invokevirtual 129, 3) := dk_182 0 129 (dk_at dksX1_restore_1 13 rfl rfl)
theorem dX1_restore_40 : decode cX1_restore 40 = .ok (.ireturn, 1) := dk_172 (dk_at dksX1_restore_1 16 rfl rfl)
theorem q97 : (Jvm.Cond.initialized "MatchmakerRules") ∈ lw_all := lw_g (lw_at lw_m1 1 rfl) rfl
theorem q141 : (Jvm.Cond.instantiable "MatchmakerRules" (9 : Nat)) ∈ lw_all := lw_g (lw_at lw_m1 45 rfl) rfl
theorem q143 : (Jvm.Cond.instanceMethod ({ cls := "MatchmakerRules", name := "<init>", desc := "()V" } : Jvm.MethodName)) ∈ lw_all := lw_g (lw_at lw_m1 47 rfl) rfl
theorem q144 : (Jvm.Cond.code ({ cls := "MatchmakerRules", name := "<init>", desc := "()V" } : Jvm.MethodName) prog_1_method_9_code (1 : Nat) (Option.none : Option Jvm.ClassFile.FieldType)) ∈ lw_all := lw_g (lw_at lw_m1 48 rfl) rfl
theorem q145 : (Jvm.Cond.methodLink "MatchmakerRules" (46 : Nat) ({ cls := "java/lang/Object", name := "<init>", desc := "()V" } : Jvm.MethodName)) ∈ lw_all := lw_g (lw_at lw_m1 49 rfl) rfl
theorem q148 : (Jvm.Cond.classLink "MatchmakerRules" (49 : Nat) "MatchmakerRules$Book") ∈ lw_all := lw_g (lw_at lw_m1 52 rfl) rfl
theorem q150 : (Jvm.Cond.methodLinkNest "MatchmakerRules" (51 : Nat) ({ cls := "MatchmakerRules$Book", name := "<init>", desc := "()V" } : Jvm.MethodName) "MatchmakerRules") ∈ lw_tbl := lw_at lw_m1 54 rfl
theorem q221 : (Jvm.Cond.fieldLinkNest "MatchmakerRules" (295 : Nat) "MatchmakerRules$Book" "rules" "Ljava/util/ArrayList;" "MatchmakerRules") ∈ lw_tbl := lw_at lw_m1 125 rfl
theorem q224 : (Jvm.Cond.fieldLinkNest "MatchmakerRules" (125 : Nat) "MatchmakerRules$Book" "facts" "Ljava/util/ArrayList;" "MatchmakerRules") ∈ lw_tbl := lw_at lw_m1 128 rfl
theorem q226 : (Jvm.Cond.fieldLinkNest "MatchmakerRules" (290 : Nat) "MatchmakerRules$Book" "came" "I" "MatchmakerRules") ∈ lw_tbl := lw_at lw_m1 130 rfl
theorem q228 : (Jvm.Cond.fieldLinkNest "MatchmakerRules" (303 : Nat) "MatchmakerRules$Book" "gone" "I" "MatchmakerRules") ∈ lw_tbl := lw_at lw_m1 132 rfl
theorem q230 : (Jvm.Cond.fieldLinkNest "MatchmakerRules" (298 : Nat) "MatchmakerRules$Book" "firings" "I" "MatchmakerRules") ∈ lw_tbl := lw_at lw_m1 134 rfl
theorem q232 : (Jvm.Cond.fieldLinkNest "MatchmakerRules" (309 : Nat) "MatchmakerRules$Book" "idle" "I" "MatchmakerRules") ∈ lw_tbl := lw_at lw_m1 136 rfl
theorem q248 : (Jvm.Cond.classLink "MatchmakerRules" (58 : Nat) "java/util/ArrayDeque") ∈ lw_all := lw_g (lw_at lw_m1 152 rfl) rfl
theorem q250 : (Jvm.Cond.methodLink "MatchmakerRules" (60 : Nat) ({ cls := "java/util/ArrayDeque", name := "<init>", desc := "()V" } : Jvm.MethodName)) ∈ lw_all := lw_g (lw_at lw_m1 154 rfl) rfl
theorem q266 : (Jvm.Cond.classLink "MatchmakerRules" (47 : Nat) "java/lang/Object") ∈ lw_all := lw_g (lw_at lw_m1 170 rfl) rfl
theorem q267 : (Jvm.Cond.classLink "MatchmakerRules" (69 : Nat) "java/lang/StringBuilder") ∈ lw_all := lw_g (lw_at lw_m1 171 rfl) rfl
theorem q269 : (Jvm.Cond.methodLink "MatchmakerRules" (71 : Nat) ({ cls := "java/lang/StringBuilder", name := "<init>", desc := "()V" } : Jvm.MethodName)) ∈ lw_all := lw_g (lw_at lw_m1 173 rfl) rfl
theorem q299 : (Jvm.Cond.stringRef "MatchmakerRules" (76 : Nat) "") ∈ lw_tbl := lw_at lw_m1 203 rfl
theorem q300 : (Jvm.Cond.fieldLink "MatchmakerRules" (52 : Nat) "MatchmakerRules" "book" "LMatchmakerRules$Book;") ∈ lw_all := lw_g (lw_at lw_m1 204 rfl) rfl
theorem q301 : (Jvm.Cond.fieldLink "MatchmakerRules" (61 : Nat) "MatchmakerRules" "undoSteps" "Ljava/util/ArrayDeque;") ∈ lw_all := lw_g (lw_at lw_m1 205 rfl) rfl
theorem q302 : (Jvm.Cond.fieldLink "MatchmakerRules" (375 : Nat) "MatchmakerRules" "saved" "LMatchmakerRules$Book;") ∈ lw_all := lw_g (lw_at lw_m1 206 rfl) rfl
theorem q303 : (Jvm.Cond.fieldLink "MatchmakerRules" (65 : Nat) "MatchmakerRules" "rows" "[Ljava/lang/Object;") ∈ lw_all := lw_g (lw_at lw_m1 207 rfl) rfl
theorem q304 : (Jvm.Cond.fieldLink "MatchmakerRules" (72 : Nat) "MatchmakerRules" "input" "Ljava/lang/StringBuilder;") ∈ lw_all := lw_g (lw_at lw_m1 208 rfl) rfl
theorem q305 : (Jvm.Cond.fieldLink "MatchmakerRules" (78 : Nat) "MatchmakerRules" "line" "Ljava/lang/String;") ∈ lw_all := lw_g (lw_at lw_m1 209 rfl) rfl
theorem q306 : (Jvm.Cond.fieldLink "MatchmakerRules" (143 : Nat) "MatchmakerRules" "lastError" "LMatchmakerRules$SyntaxException;") ∈ lw_all := lw_g (lw_at lw_m1 210 rfl) rfl
theorem q307 : (Jvm.Cond.fieldLink "MatchmakerRules" (82 : Nat) "MatchmakerRules" "lastItem" "I") ∈ lw_all := lw_g (lw_at lw_m1 211 rfl) rfl
theorem q308 : (Jvm.Cond.fieldLink "MatchmakerRules" (109 : Nat) "MatchmakerRules" "lastRefusal" "LMatchmakerRules$Refused;") ∈ lw_all := lw_g (lw_at lw_m1 212 rfl) rfl
theorem q309 : (Jvm.Cond.lays "MatchmakerRules" "MatchmakerRules" "book" "LMatchmakerRules$Book;") ∈ lw_all := lw_g (lw_at lw_m1 213 rfl) rfl
theorem q310 : (Jvm.Cond.soleField "MatchmakerRules" "book") ∈ lw_all := lw_g (lw_at lw_m1 214 rfl) rfl
theorem q311 : (Jvm.Cond.laysFinal "MatchmakerRules" "MatchmakerRules" "undoSteps" "Ljava/util/ArrayDeque;") ∈ lw_all := lw_g (lw_at lw_m1 215 rfl) rfl
theorem q312 : (Jvm.Cond.soleField "MatchmakerRules" "undoSteps") ∈ lw_all := lw_g (lw_at lw_m1 216 rfl) rfl
theorem q313 : (Jvm.Cond.lays "MatchmakerRules" "MatchmakerRules" "saved" "LMatchmakerRules$Book;") ∈ lw_all := lw_g (lw_at lw_m1 217 rfl) rfl
theorem q314 : (Jvm.Cond.soleField "MatchmakerRules" "saved") ∈ lw_all := lw_g (lw_at lw_m1 218 rfl) rfl
theorem q315 : (Jvm.Cond.laysFinal "MatchmakerRules" "MatchmakerRules" "rows" "[Ljava/lang/Object;") ∈ lw_all := lw_g (lw_at lw_m1 219 rfl) rfl
theorem q316 : (Jvm.Cond.soleField "MatchmakerRules" "rows") ∈ lw_all := lw_g (lw_at lw_m1 220 rfl) rfl
theorem q317 : (Jvm.Cond.lays "MatchmakerRules" "MatchmakerRules" "input" "Ljava/lang/StringBuilder;") ∈ lw_all := lw_g (lw_at lw_m1 221 rfl) rfl
theorem q318 : (Jvm.Cond.soleField "MatchmakerRules" "input") ∈ lw_all := lw_g (lw_at lw_m1 222 rfl) rfl
theorem q319 : (Jvm.Cond.lays "MatchmakerRules" "MatchmakerRules" "line" "Ljava/lang/String;") ∈ lw_all := lw_g (lw_at lw_m1 223 rfl) rfl
theorem q320 : (Jvm.Cond.soleField "MatchmakerRules" "line") ∈ lw_all := lw_g (lw_at lw_m1 224 rfl) rfl
theorem q321 : (Jvm.Cond.lays "MatchmakerRules" "MatchmakerRules" "lastError" "LMatchmakerRules$SyntaxException;") ∈ lw_all := lw_g (lw_at lw_m1 225 rfl) rfl
theorem q322 : (Jvm.Cond.soleField "MatchmakerRules" "lastError") ∈ lw_all := lw_g (lw_at lw_m1 226 rfl) rfl
theorem q323 : (Jvm.Cond.lays "MatchmakerRules" "MatchmakerRules" "lastItem" "I") ∈ lw_all := lw_g (lw_at lw_m1 227 rfl) rfl
theorem q324 : (Jvm.Cond.soleField "MatchmakerRules" "lastItem") ∈ lw_all := lw_g (lw_at lw_m1 228 rfl) rfl
theorem q325 : (Jvm.Cond.lays "MatchmakerRules" "MatchmakerRules" "lastRefusal" "LMatchmakerRules$Refused;") ∈ lw_all := lw_g (lw_at lw_m1 229 rfl) rfl
theorem q326 : (Jvm.Cond.soleField "MatchmakerRules" "lastRefusal") ∈ lw_all := lw_g (lw_at lw_m1 230 rfl) rfl
theorem q327 : (Jvm.Cond.superclass "MatchmakerRules" "java/lang/Object") ∈ lw_all := lw_g (lw_at lw_m1 231 rfl) rfl
theorem q329 : (Jvm.Cond.instanceMethod ({ cls := "MatchmakerRules", name := "clear", desc := "()I" } : Jvm.MethodName)) ∈ lw_all := lw_g (lw_at lw_m1 233 rfl) rfl
theorem q330 : (Jvm.Cond.selects "MatchmakerRules" ({ cls := "MatchmakerRules", name := "clear", desc := "()I" } : Jvm.MethodName) ({ cls := "MatchmakerRules", name := "clear", desc := "()I" } : Jvm.MethodName)) ∈ lw_all := lw_g (lw_at lw_m1 234 rfl) rfl
theorem q331 : (Jvm.Cond.code ({ cls := "MatchmakerRules", name := "clear", desc := "()I" } : Jvm.MethodName) prog_1_method_13_code (2 : Nat) (Option.some Jvm.ClassFile.FieldType.int)) ∈ lw_all := lw_g (lw_at lw_m1 235 rfl) rfl
theorem q332 : (Jvm.Cond.methodLink "MatchmakerRules" (129 : Nat) ({ cls := "java/util/ArrayList", name := "size", desc := "()I" } : Jvm.MethodName)) ∈ lw_all := lw_g (lw_at lw_m1 236 rfl) rfl
theorem q336 : (Jvm.Cond.methodLink "MatchmakerRules" (130 : Nat) ({ cls := "java/util/ArrayDeque", name := "clear", desc := "()V" } : Jvm.MethodName)) ∈ lw_all := lw_g (lw_at lw_m2 0 rfl) rfl
theorem q344 : (Jvm.Cond.instanceMethod ({ cls := "MatchmakerRules", name := "due", desc := "(Z)I" } : Jvm.MethodName)) ∈ lw_all := lw_g (lw_at lw_m2 8 rfl) rfl
theorem q345 : (Jvm.Cond.selects "MatchmakerRules" ({ cls := "MatchmakerRules", name := "due", desc := "(Z)I" } : Jvm.MethodName) ({ cls := "MatchmakerRules", name := "due", desc := "(Z)I" } : Jvm.MethodName)) ∈ lw_all := lw_g (lw_at lw_m2 9 rfl) rfl
theorem q346 : (Jvm.Cond.code ({ cls := "MatchmakerRules", name := "due", desc := "(Z)I" } : Jvm.MethodName) prog_1_method_26_code (2 : Nat) (Option.some Jvm.ClassFile.FieldType.int)) ∈ lw_all := lw_g (lw_at lw_m2 10 rfl) rfl
theorem q347 : (Jvm.Cond.methodLink "MatchmakerRules" (228 : Nat) ({ cls := "MatchmakerRules$Book", name := "dueAgain", desc := "()I" } : Jvm.MethodName)) ∈ lw_all := lw_g (lw_at lw_m2 11 rfl) rfl
theorem q540 : (Jvm.Cond.methodLink "MatchmakerRules" (231 : Nat) ({ cls := "MatchmakerRules$Book", name := "due", desc := "()I" } : Jvm.MethodName)) ∈ lw_all := lw_g (lw_at lw_m2 204 rfl) rfl
theorem q545 : (Jvm.Cond.instanceMethod ({ cls := "MatchmakerRules", name := "isInOrder", desc := "()Z" } : Jvm.MethodName)) ∈ lw_all := lw_g (lw_at lw_m2 209 rfl) rfl
theorem q546 : (Jvm.Cond.selects "MatchmakerRules" ({ cls := "MatchmakerRules", name := "isInOrder", desc := "()Z" } : Jvm.MethodName) ({ cls := "MatchmakerRules", name := "isInOrder", desc := "()Z" } : Jvm.MethodName)) ∈ lw_all := lw_g (lw_at lw_m2 210 rfl) rfl
theorem q547 : (Jvm.Cond.code ({ cls := "MatchmakerRules", name := "isInOrder", desc := "()Z" } : Jvm.MethodName) prog_1_method_34_code (1 : Nat) (Option.some Jvm.ClassFile.FieldType.boolean)) ∈ lw_all := lw_g (lw_at lw_m2 211 rfl) rfl
theorem q548 : (Jvm.Cond.methodLink "MatchmakerRules" (257 : Nat) ({ cls := "MatchmakerRules$Book", name := "isInOrder", desc := "()Z" } : Jvm.MethodName)) ∈ lw_all := lw_g (lw_at lw_m2 212 rfl) rfl
theorem q581 : (Jvm.Cond.selects "MatchmakerRules" ({ cls := "java/lang/Object", name := "equals", desc := "(Ljava/lang/Object;)Z" } : Jvm.MethodName) ({ cls := "java/lang/Object", name := "equals", desc := "(Ljava/lang/Object;)Z" } : Jvm.MethodName)) ∈ lw_all := lw_g (lw_at lw_m3 5 rfl) rfl
theorem q633 : (Jvm.Cond.static ({ cls := "MatchmakerRules", name := "count", desc := "(Ljava/util/ArrayList;LMatchmakerRules$Test;)I" } : Jvm.MethodName)) ∈ lw_all := lw_g (lw_at lw_m3 57 rfl) rfl
theorem q634 : (Jvm.Cond.code ({ cls := "MatchmakerRules", name := "count", desc := "(Ljava/util/ArrayList;LMatchmakerRules$Test;)I" } : Jvm.MethodName) prog_1_method_7_code (5 : Nat) (Option.some Jvm.ClassFile.FieldType.int)) ∈ lw_all := lw_g (lw_at lw_m3 58 rfl) rfl
theorem q635 : (Jvm.Cond.methodLink "MatchmakerRules" (19 : Nat) ({ cls := "java/util/ArrayList", name := "iterator", desc := "()Ljava/util/Iterator;" } : Jvm.MethodName)) ∈ lw_all := lw_g (lw_at lw_m3 59 rfl) rfl
theorem q636 : (Jvm.Cond.interfaceEntry "MatchmakerRules" (25 : Nat)) ∈ lw_tbl := lw_at lw_m3 60 rfl
theorem q637 : (Jvm.Cond.methodLink "MatchmakerRules" (25 : Nat) ({ cls := "java/util/Iterator", name := "hasNext", desc := "()Z" } : Jvm.MethodName)) ∈ lw_all := lw_g (lw_at lw_m3 61 rfl) rfl
theorem q638 : (Jvm.Cond.interfaceEntry "MatchmakerRules" (31 : Nat)) ∈ lw_tbl := lw_at lw_m3 62 rfl
theorem q639 : (Jvm.Cond.methodLink "MatchmakerRules" (31 : Nat) ({ cls := "java/util/Iterator", name := "next", desc := "()Ljava/lang/Object;" } : Jvm.MethodName)) ∈ lw_all := lw_g (lw_at lw_m3 63 rfl) rfl
theorem q640 : (Jvm.Cond.classLink "MatchmakerRules" (35 : Nat) "MatchmakerRules$Firing") ∈ lw_all := lw_g (lw_at lw_m3 64 rfl) rfl
theorem q641 : (Jvm.Cond.interfaceEntry "MatchmakerRules" (37 : Nat)) ∈ lw_tbl := lw_at lw_m3 65 rfl
theorem q642 : (Jvm.Cond.methodLink "MatchmakerRules" (37 : Nat) ({ cls := "MatchmakerRules$Test", name := "isSo", desc := "(LMatchmakerRules$Firing;)Z" } : Jvm.MethodName)) ∈ lw_all := lw_g (lw_at lw_m3 66 rfl) rfl
theorem q646 : (Jvm.Cond.instanceMethod ({ cls := "MatchmakerRules", name := "snapshot", desc := "()I" } : Jvm.MethodName)) ∈ lw_all := lw_g (lw_at lw_m3 70 rfl) rfl
theorem q647 : (Jvm.Cond.selects "MatchmakerRules" ({ cls := "MatchmakerRules", name := "snapshot", desc := "()I" } : Jvm.MethodName) ({ cls := "MatchmakerRules", name := "snapshot", desc := "()I" } : Jvm.MethodName)) ∈ lw_all := lw_g (lw_at lw_m3 71 rfl) rfl
theorem q648 : (Jvm.Cond.code ({ cls := "MatchmakerRules", name := "snapshot", desc := "()I" } : Jvm.MethodName) prog_1_method_54_code (1 : Nat) (Option.some Jvm.ClassFile.FieldType.int)) ∈ lw_all := lw_g (lw_at lw_m3 72 rfl) rfl
theorem q655 : (Jvm.Cond.instanceMethod ({ cls := "MatchmakerRules", name := "rule", desc := "()I" } : Jvm.MethodName)) ∈ lw_all := lw_g (lw_at lw_m3 79 rfl) rfl
theorem q656 : (Jvm.Cond.selects "MatchmakerRules" ({ cls := "MatchmakerRules", name := "rule", desc := "()I" } : Jvm.MethodName) ({ cls := "MatchmakerRules", name := "rule", desc := "()I" } : Jvm.MethodName)) ∈ lw_all := lw_g (lw_at lw_m3 80 rfl) rfl
theorem q657 : (Jvm.Cond.code ({ cls := "MatchmakerRules", name := "rule", desc := "()I" } : Jvm.MethodName) prog_1_method_15_code (1 : Nat) (Option.some Jvm.ClassFile.FieldType.int)) ∈ lw_all := lw_g (lw_at lw_m3 81 rfl) rfl
theorem q658 : (Jvm.Cond.classLink "MatchmakerRules" (102 : Nat) "MatchmakerRules$Change") ∈ lw_all := lw_g (lw_at lw_m3 82 rfl) rfl
theorem q660 : (Jvm.Cond.methodLink "MatchmakerRules" (147 : Nat) ({ cls := "MatchmakerRules", name := "takeRule", desc := "()LMatchmakerRules$Rule;" } : Jvm.MethodName)) ∈ lw_all := lw_g (lw_at lw_m3 84 rfl) rfl
theorem q661 : (Jvm.Cond.privateMethod ({ cls := "MatchmakerRules", name := "takeRule", desc := "()LMatchmakerRules$Rule;" } : Jvm.MethodName)) ∈ lw_tbl := lw_at lw_m3 85 rfl
theorem q662 : (Jvm.Cond.instanceMethod ({ cls := "MatchmakerRules", name := "takeRule", desc := "()LMatchmakerRules$Rule;" } : Jvm.MethodName)) ∈ lw_all := lw_g (lw_at lw_m3 86 rfl) rfl
theorem q663 : (Jvm.Cond.codeWith ({ cls := "MatchmakerRules", name := "takeRule", desc := "()LMatchmakerRules$Rule;" } : Jvm.MethodName) prog_1_method_14_code (2 : Nat) (Option.some (Jvm.ClassFile.FieldType.object "MatchmakerRules$Rule")) [((0 : Nat), (7 : Nat), (8 : Nat), (141 : Nat))]) ∈ lw_all := lw_g (lw_at lw_m3 87 rfl) rfl
theorem q664 : (Jvm.Cond.classLink "MatchmakerRules" (141 : Nat) "MatchmakerRules$SyntaxException") ∈ lw_all := lw_g (lw_at lw_m3 88 rfl) rfl
theorem q665 : (Jvm.Cond.methodLink "MatchmakerRules" (133 : Nat) ({ cls := "MatchmakerRules", name := "takeInput", desc := "()LMatchmakerRules$Parser;" } : Jvm.MethodName)) ∈ lw_all := lw_g (lw_at lw_m3 89 rfl) rfl
theorem q666 : (Jvm.Cond.privateMethod ({ cls := "MatchmakerRules", name := "takeInput", desc := "()LMatchmakerRules$Parser;" } : Jvm.MethodName)) ∈ lw_tbl := lw_at lw_m3 90 rfl
theorem q667 : (Jvm.Cond.instanceMethod ({ cls := "MatchmakerRules", name := "takeInput", desc := "()LMatchmakerRules$Parser;" } : Jvm.MethodName)) ∈ lw_all := lw_g (lw_at lw_m3 91 rfl) rfl
theorem q668 : (Jvm.Cond.code ({ cls := "MatchmakerRules", name := "takeInput", desc := "()LMatchmakerRules$Parser;" } : Jvm.MethodName) prog_1_method_12_code (2 : Nat) (Option.some (Jvm.ClassFile.FieldType.object "MatchmakerRules$Parser"))) ∈ lw_all := lw_g (lw_at lw_m3 92 rfl) rfl
theorem q669 : (Jvm.Cond.classLink "MatchmakerRules" (120 : Nat) "MatchmakerRules$Parser") ∈ lw_all := lw_g (lw_at lw_m3 93 rfl) rfl
theorem q671 : (Jvm.Cond.methodLink "MatchmakerRules" (122 : Nat) ({ cls := "MatchmakerRules$Parser", name := "<init>", desc := "(Ljava/lang/CharSequence;)V" } : Jvm.MethodName)) ∈ lw_all := lw_g (lw_at lw_m3 95 rfl) rfl
theorem q682 : (Jvm.Cond.methodLink "MatchmakerRules" (137 : Nat) ({ cls := "MatchmakerRules$Parser", name := "wholeRule", desc := "()LMatchmakerRules$Rule;" } : Jvm.MethodName)) ∈ lw_all := lw_g (lw_at lw_m3 106 rfl) rfl
theorem q782 : (Jvm.Cond.static ({ cls := "MatchmakerRules", name := "inRange", desc := "(JJJ)Z" } : Jvm.MethodName)) ∈ lw_all := lw_g (lw_at lw_m3 206 rfl) rfl
theorem q783 : (Jvm.Cond.code ({ cls := "MatchmakerRules", name := "inRange", desc := "(JJJ)Z" } : Jvm.MethodName) prog_1_method_1_code (6 : Nat) (Option.some Jvm.ClassFile.FieldType.boolean)) ∈ lw_all := lw_g (lw_at lw_m3 207 rfl) rfl
theorem q803 : (Jvm.Cond.fieldLinkNest "MatchmakerRules" (368 : Nat) "MatchmakerRules$SyntaxException" "position" "I" "MatchmakerRules") ∈ lw_tbl := lw_at lw_m3 227 rfl
theorem q869 : (Jvm.Cond.classLink "MatchmakerRules" (1 : Nat) "java/lang/IllegalArgumentException") ∈ lw_all := lw_g (lw_at lw_m4 53 rfl) rfl
theorem q878 : (Jvm.Cond.methodLink "MatchmakerRules" (3 : Nat) ({ cls := "java/lang/IllegalArgumentException", name := "<init>", desc := "()V" } : Jvm.MethodName)) ∈ lw_all := lw_g (lw_at lw_m4 62 rfl) rfl
theorem q884 : (Jvm.Cond.methodLink "MatchmakerRules" (150 : Nat) ({ cls := "MatchmakerRules$Change", name := "<init>", desc := "(LMatchmakerRules$Rule;)V" } : Jvm.MethodName)) ∈ lw_all := lw_g (lw_at lw_m4 68 rfl) rfl
theorem q898 : (Jvm.Cond.methodLink "MatchmakerRules" (153 : Nat) ({ cls := "MatchmakerRules", name := "change", desc := "(LMatchmakerRules$Change;)I" } : Jvm.MethodName)) ∈ lw_all := lw_g (lw_at lw_m4 82 rfl) rfl
theorem q899 : (Jvm.Cond.privateMethod ({ cls := "MatchmakerRules", name := "change", desc := "(LMatchmakerRules$Change;)I" } : Jvm.MethodName)) ∈ lw_tbl := lw_at lw_m4 83 rfl
theorem q900 : (Jvm.Cond.instanceMethod ({ cls := "MatchmakerRules", name := "change", desc := "(LMatchmakerRules$Change;)I" } : Jvm.MethodName)) ∈ lw_all := lw_g (lw_at lw_m4 84 rfl) rfl
theorem q901 : (Jvm.Cond.codeWith ({ cls := "MatchmakerRules", name := "change", desc := "(LMatchmakerRules$Change;)I" } : Jvm.MethodName) prog_1_method_11_code (5 : Nat) (Option.some Jvm.ClassFile.FieldType.int) [((8 : Nat), (14 : Nat), (17 : Nat), (107 : Nat))]) ∈ lw_all := lw_g (lw_at lw_m4 85 rfl) rfl
theorem q902 : (Jvm.Cond.classLink "MatchmakerRules" (107 : Nat) "MatchmakerRules$Refused") ∈ lw_all := lw_g (lw_at lw_m4 86 rfl) rfl
theorem q903 : (Jvm.Cond.methodLink "MatchmakerRules" (97 : Nat) ({ cls := "MatchmakerRules$Book", name := "copy", desc := "()LMatchmakerRules$Book;" } : Jvm.MethodName)) ∈ lw_all := lw_g (lw_at lw_m4 87 rfl) rfl
theorem q939 : (Jvm.Cond.selects "MatchmakerRules" ({ cls := "java/lang/Object", name := "getClass", desc := "()Ljava/lang/Class;" } : Jvm.MethodName) ({ cls := "java/lang/Object", name := "getClass", desc := "()Ljava/lang/Class;" } : Jvm.MethodName)) ∈ lw_all := lw_g (lw_at lw_m4 123 rfl) rfl
theorem q990 : (Jvm.Cond.fieldLinkNest "MatchmakerRules" (164 : Nat) "MatchmakerRules$Fact" "number" "I" "MatchmakerRules") ∈ lw_tbl := lw_at lw_m4 174 rfl
theorem q993 : (Jvm.Cond.fieldLinkNest "MatchmakerRules" (189 : Nat) "MatchmakerRules$Fact" "kind" "C" "MatchmakerRules") ∈ lw_tbl := lw_at lw_m4 177 rfl
theorem q997 : (Jvm.Cond.fieldLinkNest "MatchmakerRules" (193 : Nat) "MatchmakerRules$Fact" "first" "I" "MatchmakerRules") ∈ lw_tbl := lw_at lw_m4 181 rfl
theorem q1001 : (Jvm.Cond.fieldLinkNest "MatchmakerRules" (196 : Nat) "MatchmakerRules$Fact" "second" "I" "MatchmakerRules") ∈ lw_tbl := lw_at lw_m4 185 rfl
theorem q1005 : (Jvm.Cond.fieldLinkNest "MatchmakerRules" (215 : Nat) "MatchmakerRules$Fact" "trust" "F" "MatchmakerRules") ∈ lw_tbl := lw_at lw_m4 189 rfl
theorem q1007 : (Jvm.Cond.fieldLinkNest "MatchmakerRules" (206 : Nat) "MatchmakerRules$Fact" "since" "I" "MatchmakerRules") ∈ lw_tbl := lw_at lw_m4 191 rfl
theorem q1010 : (Jvm.Cond.fieldLinkNest "MatchmakerRules" (199 : Nat) "MatchmakerRules$Fact" "isTold" "Z" "MatchmakerRules") ∈ lw_tbl := lw_at lw_m4 194 rfl
theorem q1013 : (Jvm.Cond.fieldLinkNest "MatchmakerRules" (203 : Nat) "MatchmakerRules$Fact" "reasons" "Ljava/util/ArrayList;" "MatchmakerRules") ∈ lw_tbl := lw_at lw_m4 197 rfl
theorem q1043 : (Jvm.Cond.methodLink "MatchmakerRules" (101 : Nat) ({ cls := "MatchmakerRules$Change", name := "make", desc := "(LMatchmakerRules$Book;)I" } : Jvm.MethodName)) ∈ lw_all := lw_g (lw_at lw_m4 227 rfl) rfl
theorem q1068 : (Jvm.Cond.fieldLinkNest "MatchmakerRules" (287 : Nat) "MatchmakerRules$Refused" "reason" "I" "MatchmakerRules") ∈ lw_tbl := lw_at lw_m5 12 rfl
theorem q1070 : (Jvm.Cond.fieldLinkNest "MatchmakerRules" (284 : Nat) "MatchmakerRules$Refused" "detail" "I" "MatchmakerRules") ∈ lw_tbl := lw_at lw_m5 14 rfl
theorem q1094 : (Jvm.Cond.static ({ cls := "MatchmakerRules", name := "remove", desc := "(Ljava/util/ArrayList;LMatchmakerRules$Test;)V" } : Jvm.MethodName)) ∈ lw_all := lw_g (lw_at lw_m5 38 rfl) rfl
theorem q1095 : (Jvm.Cond.code ({ cls := "MatchmakerRules", name := "remove", desc := "(Ljava/util/ArrayList;LMatchmakerRules$Test;)V" } : Jvm.MethodName) prog_1_method_8_code (3 : Nat) (Option.none : Option Jvm.ClassFile.FieldType)) ∈ lw_all := lw_g (lw_at lw_m5 39 rfl) rfl
theorem q1096 : (Jvm.Cond.interfaceEntry "MatchmakerRules" (43 : Nat)) ∈ lw_tbl := lw_at lw_m5 40 rfl
theorem q1097 : (Jvm.Cond.methodLink "MatchmakerRules" (43 : Nat) ({ cls := "java/util/Iterator", name := "remove", desc := "()V" } : Jvm.MethodName)) ∈ lw_all := lw_g (lw_at lw_m5 41 rfl) rfl
theorem q1158 : (Jvm.Cond.static ({ cls := "MatchmakerRules", name := "checkArgument", desc := "(Z)V" } : Jvm.MethodName)) ∈ lw_all := lw_g (lw_at lw_m5 102 rfl) rfl
theorem q1159 : (Jvm.Cond.code ({ cls := "MatchmakerRules", name := "checkArgument", desc := "(Z)V" } : Jvm.MethodName) prog_1_method_2_code (1 : Nat) (Option.none : Option Jvm.ClassFile.FieldType)) ∈ lw_all := lw_g (lw_at lw_m5 103 rfl) rfl
theorem q1238 : (Jvm.Cond.classLink "MatchmakerRules" (113 : Nat) "java/lang/UnsupportedOperationException") ∈ lw_all := lw_g (lw_at lw_m5 182 rfl) rfl
theorem q1247 : (Jvm.Cond.methodLink "MatchmakerRules" (115 : Nat) ({ cls := "java/lang/UnsupportedOperationException", name := "<init>", desc := "()V" } : Jvm.MethodName)) ∈ lw_all := lw_g (lw_at lw_m5 191 rfl) rfl
theorem q1253 : (Jvm.Cond.methodLink "MatchmakerRules" (116 : Nat) ({ cls := "MatchmakerRules", name := "become", desc := "(LMatchmakerRules$Book;)V" } : Jvm.MethodName)) ∈ lw_all := lw_g (lw_at lw_m5 197 rfl) rfl
theorem q1254 : (Jvm.Cond.privateMethod ({ cls := "MatchmakerRules", name := "become", desc := "(LMatchmakerRules$Book;)V" } : Jvm.MethodName)) ∈ lw_tbl := lw_at lw_m5 198 rfl
theorem q1255 : (Jvm.Cond.instanceMethod ({ cls := "MatchmakerRules", name := "become", desc := "(LMatchmakerRules$Book;)V" } : Jvm.MethodName)) ∈ lw_all := lw_g (lw_at lw_m5 199 rfl) rfl
theorem q1256 : (Jvm.Cond.code ({ cls := "MatchmakerRules", name := "become", desc := "(LMatchmakerRules$Book;)V" } : Jvm.MethodName) prog_1_method_10_code (3 : Nat) (Option.none : Option Jvm.ClassFile.FieldType)) ∈ lw_all := lw_g (lw_at lw_m5 200 rfl) rfl
theorem q1257 : (Jvm.Cond.methodLink "MatchmakerRules" (86 : Nat) ({ cls := "java/util/ArrayDeque", name := "size", desc := "()I" } : Jvm.MethodName)) ∈ lw_all := lw_g (lw_at lw_m5 201 rfl) rfl
theorem q1264 : (Jvm.Cond.methodLink "MatchmakerRules" (90 : Nat) ({ cls := "java/util/ArrayDeque", name := "removeFirst", desc := "()Ljava/lang/Object;" } : Jvm.MethodName)) ∈ lw_all := lw_g (lw_at lw_m5 208 rfl) rfl
theorem q1280 : (Jvm.Cond.methodLink "MatchmakerRules" (93 : Nat) ({ cls := "java/util/ArrayDeque", name := "addLast", desc := "(Ljava/lang/Object;)V" } : Jvm.MethodName)) ∈ lw_all := lw_g (lw_at lw_m5 224 rfl) rfl
theorem q1314 : (Jvm.Cond.instanceMethod ({ cls := "MatchmakerRules", name := "drop", desc := "(I)I" } : Jvm.MethodName)) ∈ lw_all := lw_g (lw_at lw_m6 18 rfl) rfl
theorem q1315 : (Jvm.Cond.selects "MatchmakerRules" ({ cls := "MatchmakerRules", name := "drop", desc := "(I)I" } : Jvm.MethodName) ({ cls := "MatchmakerRules", name := "drop", desc := "(I)I" } : Jvm.MethodName)) ∈ lw_all := lw_g (lw_at lw_m6 19 rfl) rfl
theorem q1316 : (Jvm.Cond.code ({ cls := "MatchmakerRules", name := "drop", desc := "(I)I" } : Jvm.MethodName) prog_1_method_16_code (2 : Nat) (Option.some Jvm.ClassFile.FieldType.int)) ∈ lw_all := lw_g (lw_at lw_m6 20 rfl) rfl
theorem q1317 : (Jvm.Cond.methodLink "MatchmakerRules" (157 : Nat) ({ cls := "MatchmakerRules$Change", name := "<init>", desc := "(C[I)V" } : Jvm.MethodName)) ∈ lw_all := lw_g (lw_at lw_m6 21 rfl) rfl
theorem q1324 : (Jvm.Cond.instanceMethod ({ cls := "MatchmakerRules", name := "tell", desc := "(CIII)I" } : Jvm.MethodName)) ∈ lw_all := lw_g (lw_at lw_m6 28 rfl) rfl
theorem q1325 : (Jvm.Cond.selects "MatchmakerRules" ({ cls := "MatchmakerRules", name := "tell", desc := "(CIII)I" } : Jvm.MethodName) ({ cls := "MatchmakerRules", name := "tell", desc := "(CIII)I" } : Jvm.MethodName)) ∈ lw_all := lw_g (lw_at lw_m6 29 rfl) rfl
theorem q1326 : (Jvm.Cond.code ({ cls := "MatchmakerRules", name := "tell", desc := "(CIII)I" } : Jvm.MethodName) prog_1_method_17_code (5 : Nat) (Option.some Jvm.ClassFile.FieldType.int)) ∈ lw_all := lw_g (lw_at lw_m6 30 rfl) rfl
theorem q1331 : (Jvm.Cond.instanceMethod ({ cls := "MatchmakerRules", name := "untell", desc := "(I)I" } : Jvm.MethodName)) ∈ lw_all := lw_g (lw_at lw_m6 35 rfl) rfl
theorem q1332 : (Jvm.Cond.selects "MatchmakerRules" ({ cls := "MatchmakerRules", name := "untell", desc := "(I)I" } : Jvm.MethodName) ({ cls := "MatchmakerRules", name := "untell", desc := "(I)I" } : Jvm.MethodName)) ∈ lw_all := lw_g (lw_at lw_m6 36 rfl) rfl
theorem q1333 : (Jvm.Cond.code ({ cls := "MatchmakerRules", name := "untell", desc := "(I)I" } : Jvm.MethodName) prog_1_method_18_code (2 : Nat) (Option.some Jvm.ClassFile.FieldType.int)) ∈ lw_all := lw_g (lw_at lw_m6 37 rfl) rfl
theorem q1339 : (Jvm.Cond.instanceMethod ({ cls := "MatchmakerRules", name := "find", desc := "(CII)I" } : Jvm.MethodName)) ∈ lw_all := lw_g (lw_at lw_m6 43 rfl) rfl
theorem q1340 : (Jvm.Cond.selects "MatchmakerRules" ({ cls := "MatchmakerRules", name := "find", desc := "(CII)I" } : Jvm.MethodName) ({ cls := "MatchmakerRules", name := "find", desc := "(CII)I" } : Jvm.MethodName)) ∈ lw_all := lw_g (lw_at lw_m6 44 rfl) rfl
theorem q1341 : (Jvm.Cond.code ({ cls := "MatchmakerRules", name := "find", desc := "(CII)I" } : Jvm.MethodName) prog_1_method_20_code (4 : Nat) (Option.some Jvm.ClassFile.FieldType.int)) ∈ lw_all := lw_g (lw_at lw_m6 45 rfl) rfl
theorem q1342 : (Jvm.Cond.methodLink "MatchmakerRules" (169 : Nat) ({ cls := "MatchmakerRules$Book", name := "find", desc := "(CII)LMatchmakerRules$Fact;" } : Jvm.MethodName)) ∈ lw_all := lw_g (lw_at lw_m6 46 rfl) rfl
theorem q1343 : (Jvm.Cond.methodLink "MatchmakerRules" (173 : Nat) ({ cls := "MatchmakerRules", name := "numberOf", desc := "(LMatchmakerRules$Fact;)I" } : Jvm.MethodName)) ∈ lw_all := lw_g (lw_at lw_m6 47 rfl) rfl
theorem q1344 : (Jvm.Cond.static ({ cls := "MatchmakerRules", name := "numberOf", desc := "(LMatchmakerRules$Fact;)I" } : Jvm.MethodName)) ∈ lw_all := lw_g (lw_at lw_m6 48 rfl) rfl
theorem q1345 : (Jvm.Cond.code ({ cls := "MatchmakerRules", name := "numberOf", desc := "(LMatchmakerRules$Fact;)I" } : Jvm.MethodName) prog_1_method_19_code (1 : Nat) (Option.some Jvm.ClassFile.FieldType.int)) ∈ lw_all := lw_g (lw_at lw_m6 49 rfl) rfl
theorem q1346 : (Jvm.Cond.methodLink "MatchmakerRules" (160 : Nat) ({ cls := "MatchmakerRules", name := "checkElement", desc := "(Z)V" } : Jvm.MethodName)) ∈ lw_all := lw_g (lw_at lw_m6 50 rfl) rfl
theorem q1347 : (Jvm.Cond.static ({ cls := "MatchmakerRules", name := "checkElement", desc := "(Z)V" } : Jvm.MethodName)) ∈ lw_all := lw_g (lw_at lw_m6 51 rfl) rfl
theorem q1348 : (Jvm.Cond.code ({ cls := "MatchmakerRules", name := "checkElement", desc := "(Z)V" } : Jvm.MethodName) prog_1_method_5_code (1 : Nat) (Option.none : Option Jvm.ClassFile.FieldType)) ∈ lw_all := lw_g (lw_at lw_m6 52 rfl) rfl
theorem q1349 : (Jvm.Cond.classLink "MatchmakerRules" (13 : Nat) "java/util/NoSuchElementException") ∈ lw_all := lw_g (lw_at lw_m6 53 rfl) rfl
theorem q1350 : (Jvm.Cond.methodLink "MatchmakerRules" (15 : Nat) ({ cls := "java/util/NoSuchElementException", name := "<init>", desc := "()V" } : Jvm.MethodName)) ∈ lw_all := lw_g (lw_at lw_m6 54 rfl) rfl
theorem q1355 : (Jvm.Cond.instanceMethod ({ cls := "MatchmakerRules", name := "factAt", desc := "(I)I" } : Jvm.MethodName)) ∈ lw_all := lw_g (lw_at lw_m6 59 rfl) rfl
theorem q1356 : (Jvm.Cond.selects "MatchmakerRules" ({ cls := "MatchmakerRules", name := "factAt", desc := "(I)I" } : Jvm.MethodName) ({ cls := "MatchmakerRules", name := "factAt", desc := "(I)I" } : Jvm.MethodName)) ∈ lw_all := lw_g (lw_at lw_m6 60 rfl) rfl
theorem q1357 : (Jvm.Cond.code ({ cls := "MatchmakerRules", name := "factAt", desc := "(I)I" } : Jvm.MethodName) prog_1_method_21_code (2 : Nat) (Option.some Jvm.ClassFile.FieldType.int)) ∈ lw_all := lw_g (lw_at lw_m6 61 rfl) rfl
theorem q1358 : (Jvm.Cond.methodLink "MatchmakerRules" (177 : Nat) ({ cls := "MatchmakerRules", name := "inRange", desc := "(JJJ)Z" } : Jvm.MethodName)) ∈ lw_all := lw_g (lw_at lw_m6 62 rfl) rfl
theorem q1359 : (Jvm.Cond.methodLink "MatchmakerRules" (181 : Nat) ({ cls := "java/util/ArrayList", name := "get", desc := "(I)Ljava/lang/Object;" } : Jvm.MethodName)) ∈ lw_all := lw_g (lw_at lw_m6 63 rfl) rfl
theorem q1360 : (Jvm.Cond.classLink "MatchmakerRules" (165 : Nat) "MatchmakerRules$Fact") ∈ lw_all := lw_g (lw_at lw_m6 64 rfl) rfl
theorem q1365 : (Jvm.Cond.instanceMethod ({ cls := "MatchmakerRules", name := "factOf", desc := "(II)I" } : Jvm.MethodName)) ∈ lw_all := lw_g (lw_at lw_m6 69 rfl) rfl
theorem q1366 : (Jvm.Cond.selects "MatchmakerRules" ({ cls := "MatchmakerRules", name := "factOf", desc := "(II)I" } : Jvm.MethodName) ({ cls := "MatchmakerRules", name := "factOf", desc := "(II)I" } : Jvm.MethodName)) ∈ lw_all := lw_g (lw_at lw_m6 70 rfl) rfl
theorem q1367 : (Jvm.Cond.code ({ cls := "MatchmakerRules", name := "factOf", desc := "(II)I" } : Jvm.MethodName) prog_1_method_22_code (4 : Nat) (Option.some Jvm.ClassFile.FieldType.int)) ∈ lw_all := lw_g (lw_at lw_m6 71 rfl) rfl
theorem q1368 : (Jvm.Cond.methodLink "MatchmakerRules" (185 : Nat) ({ cls := "MatchmakerRules$Book", name := "fact", desc := "(I)LMatchmakerRules$Fact;" } : Jvm.MethodName)) ∈ lw_all := lw_g (lw_at lw_m6 72 rfl) rfl
theorem q1373 : (Jvm.Cond.methodLink "MatchmakerRules" (209 : Nat) ({ cls := "MatchmakerRules$Book", name := "uses", desc := "(LMatchmakerRules$Fact;)I" } : Jvm.MethodName)) ∈ lw_all := lw_g (lw_at lw_m6 77 rfl) rfl
theorem q1379 : (Jvm.Cond.methodLink "MatchmakerRules" (212 : Nat) ({ cls := "MatchmakerRules$Book", name := "depth", desc := "(LMatchmakerRules$Fact;)I" } : Jvm.MethodName)) ∈ lw_all := lw_g (lw_at lw_m6 83 rfl) rfl
theorem q1387 : (Jvm.Cond.instanceMethod ({ cls := "MatchmakerRules", name := "trust", desc := "(I)F" } : Jvm.MethodName)) ∈ lw_all := lw_g (lw_at lw_m6 91 rfl) rfl
theorem q1388 : (Jvm.Cond.selects "MatchmakerRules" ({ cls := "MatchmakerRules", name := "trust", desc := "(I)F" } : Jvm.MethodName) ({ cls := "MatchmakerRules", name := "trust", desc := "(I)F" } : Jvm.MethodName)) ∈ lw_all := lw_g (lw_at lw_m6 92 rfl) rfl
theorem q1389 : (Jvm.Cond.code ({ cls := "MatchmakerRules", name := "trust", desc := "(I)F" } : Jvm.MethodName) prog_1_method_23_code (2 : Nat) (Option.some Jvm.ClassFile.FieldType.float)) ∈ lw_all := lw_g (lw_at lw_m6 93 rfl) rfl
theorem q1394 : (Jvm.Cond.instanceMethod ({ cls := "MatchmakerRules", name := "trustBits", desc := "(I)I" } : Jvm.MethodName)) ∈ lw_all := lw_g (lw_at lw_m6 98 rfl) rfl
theorem q1395 : (Jvm.Cond.selects "MatchmakerRules" ({ cls := "MatchmakerRules", name := "trustBits", desc := "(I)I" } : Jvm.MethodName) ({ cls := "MatchmakerRules", name := "trustBits", desc := "(I)I" } : Jvm.MethodName)) ∈ lw_all := lw_g (lw_at lw_m6 99 rfl) rfl
theorem q1396 : (Jvm.Cond.code ({ cls := "MatchmakerRules", name := "trustBits", desc := "(I)I" } : Jvm.MethodName) prog_1_method_24_code (2 : Nat) (Option.some Jvm.ClassFile.FieldType.int)) ∈ lw_all := lw_g (lw_at lw_m6 100 rfl) rfl
theorem q1397 : (Jvm.Cond.methodLink "MatchmakerRules" (219 : Nat) ({ cls := "java/lang/Float", name := "floatToIntBits", desc := "(F)I" } : Jvm.MethodName)) ∈ lw_all := lw_g (lw_at lw_m6 101 rfl) rfl
theorem q1411 : (Jvm.Cond.instanceMethod ({ cls := "MatchmakerRules", name := "trusted", desc := "(I)I" } : Jvm.MethodName)) ∈ lw_all := lw_g (lw_at lw_m6 115 rfl) rfl
theorem q1412 : (Jvm.Cond.selects "MatchmakerRules" ({ cls := "MatchmakerRules", name := "trusted", desc := "(I)I" } : Jvm.MethodName) ({ cls := "MatchmakerRules", name := "trusted", desc := "(I)I" } : Jvm.MethodName)) ∈ lw_all := lw_g (lw_at lw_m6 116 rfl) rfl
theorem q1413 : (Jvm.Cond.code ({ cls := "MatchmakerRules", name := "trusted", desc := "(I)I" } : Jvm.MethodName) prog_1_method_25_code (2 : Nat) (Option.some Jvm.ClassFile.FieldType.int)) ∈ lw_all := lw_g (lw_at lw_m6 117 rfl) rfl
theorem q1414 : (Jvm.Cond.methodLink "MatchmakerRules" (225 : Nat) ({ cls := "MatchmakerRules$Book", name := "trusted", desc := "(I)LMatchmakerRules$Fact;" } : Jvm.MethodName)) ∈ lw_all := lw_g (lw_at lw_m6 118 rfl) rfl
theorem q1426 : (Jvm.Cond.instanceMethod ({ cls := "MatchmakerRules", name := "agenda", desc := "(II)I" } : Jvm.MethodName)) ∈ lw_all := lw_g (lw_at lw_m6 130 rfl) rfl
theorem q1427 : (Jvm.Cond.selects "MatchmakerRules" ({ cls := "MatchmakerRules", name := "agenda", desc := "(II)I" } : Jvm.MethodName) ({ cls := "MatchmakerRules", name := "agenda", desc := "(II)I" } : Jvm.MethodName)) ∈ lw_all := lw_g (lw_at lw_m6 131 rfl) rfl
theorem q1428 : (Jvm.Cond.code ({ cls := "MatchmakerRules", name := "agenda", desc := "(II)I" } : Jvm.MethodName) prog_1_method_27_code (4 : Nat) (Option.some Jvm.ClassFile.FieldType.int)) ∈ lw_all := lw_g (lw_at lw_m6 132 rfl) rfl
theorem q1429 : (Jvm.Cond.methodLink "MatchmakerRules" (234 : Nat) ({ cls := "MatchmakerRules$Book", name := "agenda", desc := "(I)LMatchmakerRules$Firing;" } : Jvm.MethodName)) ∈ lw_all := lw_g (lw_at lw_m6 133 rfl) rfl
theorem q1433 : (Jvm.Cond.methodLink "MatchmakerRules" (238 : Nat) ({ cls := "MatchmakerRules$Book", name := "part", desc := "(LMatchmakerRules$Firing;I)I" } : Jvm.MethodName)) ∈ lw_all := lw_g (lw_at lw_m6 137 rfl) rfl
theorem q1467 : (Jvm.Cond.instanceMethod ({ cls := "MatchmakerRules", name := "matches", desc := "(I)I" } : Jvm.MethodName)) ∈ lw_all := lw_g (lw_at lw_m6 171 rfl) rfl
theorem q1468 : (Jvm.Cond.selects "MatchmakerRules" ({ cls := "MatchmakerRules", name := "matches", desc := "(I)I" } : Jvm.MethodName) ({ cls := "MatchmakerRules", name := "matches", desc := "(I)I" } : Jvm.MethodName)) ∈ lw_all := lw_g (lw_at lw_m6 172 rfl) rfl
theorem q1469 : (Jvm.Cond.code ({ cls := "MatchmakerRules", name := "matches", desc := "(I)I" } : Jvm.MethodName) prog_1_method_28_code (2 : Nat) (Option.some Jvm.ClassFile.FieldType.int)) ∈ lw_all := lw_g (lw_at lw_m6 173 rfl) rfl
theorem q1470 : (Jvm.Cond.methodLink "MatchmakerRules" (242 : Nat) ({ cls := "MatchmakerRules$Book", name := "rule", desc := "(I)LMatchmakerRules$Rule;" } : Jvm.MethodName)) ∈ lw_all := lw_g (lw_at lw_m6 174 rfl) rfl
theorem q1475 : (Jvm.Cond.static ({ cls := "MatchmakerRules", name := "checkIndex", desc := "(Z)V" } : Jvm.MethodName)) ∈ lw_all := lw_g (lw_at lw_m6 179 rfl) rfl
theorem q1476 : (Jvm.Cond.code ({ cls := "MatchmakerRules", name := "checkIndex", desc := "(Z)V" } : Jvm.MethodName) prog_1_method_3_code (1 : Nat) (Option.none : Option Jvm.ClassFile.FieldType)) ∈ lw_all := lw_g (lw_at lw_m6 180 rfl) rfl
theorem q1477 : (Jvm.Cond.classLink "MatchmakerRules" (7 : Nat) "java/lang/IndexOutOfBoundsException") ∈ lw_all := lw_g (lw_at lw_m6 181 rfl) rfl
theorem q1486 : (Jvm.Cond.methodLink "MatchmakerRules" (9 : Nat) ({ cls := "java/lang/IndexOutOfBoundsException", name := "<init>", desc := "()V" } : Jvm.MethodName)) ∈ lw_all := lw_g (lw_at lw_m6 190 rfl) rfl
theorem q1492 : (Jvm.Cond.methodLink "MatchmakerRules" (246 : Nat) ({ cls := "MatchmakerRules$Book", name := "matches", desc := "(LMatchmakerRules$Rule;)I" } : Jvm.MethodName)) ∈ lw_all := lw_g (lw_at lw_m6 196 rfl) rfl
theorem q1500 : (Jvm.Cond.instanceMethod ({ cls := "MatchmakerRules", name := "fire", desc := "()I" } : Jvm.MethodName)) ∈ lw_all := lw_g (lw_at lw_m6 204 rfl) rfl
theorem q1501 : (Jvm.Cond.selects "MatchmakerRules" ({ cls := "MatchmakerRules", name := "fire", desc := "()I" } : Jvm.MethodName) ({ cls := "MatchmakerRules", name := "fire", desc := "()I" } : Jvm.MethodName)) ∈ lw_all := lw_g (lw_at lw_m6 205 rfl) rfl
theorem q1502 : (Jvm.Cond.code ({ cls := "MatchmakerRules", name := "fire", desc := "()I" } : Jvm.MethodName) prog_1_method_29_code (1 : Nat) (Option.some Jvm.ClassFile.FieldType.int)) ∈ lw_all := lw_g (lw_at lw_m6 206 rfl) rfl
theorem q1507 : (Jvm.Cond.instanceMethod ({ cls := "MatchmakerRules", name := "run", desc := "(I)I" } : Jvm.MethodName)) ∈ lw_all := lw_g (lw_at lw_m6 211 rfl) rfl
theorem q1508 : (Jvm.Cond.selects "MatchmakerRules" ({ cls := "MatchmakerRules", name := "run", desc := "(I)I" } : Jvm.MethodName) ({ cls := "MatchmakerRules", name := "run", desc := "(I)I" } : Jvm.MethodName)) ∈ lw_all := lw_g (lw_at lw_m6 212 rfl) rfl
theorem q1509 : (Jvm.Cond.code ({ cls := "MatchmakerRules", name := "run", desc := "(I)I" } : Jvm.MethodName) prog_1_method_30_code (2 : Nat) (Option.some Jvm.ClassFile.FieldType.int)) ∈ lw_all := lw_g (lw_at lw_m6 213 rfl) rfl
theorem q1514 : (Jvm.Cond.instanceMethod ({ cls := "MatchmakerRules", name := "quietIn", desc := "()I" } : Jvm.MethodName)) ∈ lw_all := lw_g (lw_at lw_m6 218 rfl) rfl
theorem q1515 : (Jvm.Cond.selects "MatchmakerRules" ({ cls := "MatchmakerRules", name := "quietIn", desc := "()I" } : Jvm.MethodName) ({ cls := "MatchmakerRules", name := "quietIn", desc := "()I" } : Jvm.MethodName)) ∈ lw_all := lw_g (lw_at lw_m6 219 rfl) rfl
theorem q1516 : (Jvm.Cond.code ({ cls := "MatchmakerRules", name := "quietIn", desc := "()I" } : Jvm.MethodName) prog_1_method_31_code (2 : Nat) (Option.some Jvm.ClassFile.FieldType.int)) ∈ lw_all := lw_g (lw_at lw_m6 220 rfl) rfl
theorem q1517 : (Jvm.Cond.methodLink "MatchmakerRules" (250 : Nat) ({ cls := "MatchmakerRules$Book", name := "quietIn", desc := "()I" } : Jvm.MethodName)) ∈ lw_all := lw_g (lw_at lw_m6 221 rfl) rfl
theorem q1526 : (Jvm.Cond.instanceMethod ({ cls := "MatchmakerRules", name := "why", desc := "(III)I" } : Jvm.MethodName)) ∈ lw_all := lw_g (lw_at lw_m6 230 rfl) rfl
theorem q1527 : (Jvm.Cond.selects "MatchmakerRules" ({ cls := "MatchmakerRules", name := "why", desc := "(III)I" } : Jvm.MethodName) ({ cls := "MatchmakerRules", name := "why", desc := "(III)I" } : Jvm.MethodName)) ∈ lw_all := lw_g (lw_at lw_m6 231 rfl) rfl
theorem q1528 : (Jvm.Cond.code ({ cls := "MatchmakerRules", name := "why", desc := "(III)I" } : Jvm.MethodName) prog_1_method_32_code (5 : Nat) (Option.some Jvm.ClassFile.FieldType.int)) ∈ lw_all := lw_g (lw_at lw_m6 232 rfl) rfl
theorem q1533 : (Jvm.Cond.instanceMethod ({ cls := "MatchmakerRules", name := "wouldGo", desc := "(I)I" } : Jvm.MethodName)) ∈ lw_all := lw_g (lw_at lw_m6 237 rfl) rfl
theorem q1534 : (Jvm.Cond.selects "MatchmakerRules" ({ cls := "MatchmakerRules", name := "wouldGo", desc := "(I)I" } : Jvm.MethodName) ({ cls := "MatchmakerRules", name := "wouldGo", desc := "(I)I" } : Jvm.MethodName)) ∈ lw_all := lw_g (lw_at lw_m6 238 rfl) rfl
theorem q1535 : (Jvm.Cond.code ({ cls := "MatchmakerRules", name := "wouldGo", desc := "(I)I" } : Jvm.MethodName) prog_1_method_33_code (2 : Nat) (Option.some Jvm.ClassFile.FieldType.int)) ∈ lw_all := lw_g (lw_at lw_m6 239 rfl) rfl
theorem q1536 : (Jvm.Cond.methodLink "MatchmakerRules" (253 : Nat) ({ cls := "MatchmakerRules$Book", name := "wouldGo", desc := "(I)I" } : Jvm.MethodName)) ∈ lw_all := lw_g (lw_at lw_m7 0 rfl) rfl
theorem q1545 : (Jvm.Cond.instanceMethod ({ cls := "MatchmakerRules", name := "line", desc := "(I)I" } : Jvm.MethodName)) ∈ lw_all := lw_g (lw_at lw_m7 9 rfl) rfl
theorem q1546 : (Jvm.Cond.selects "MatchmakerRules" ({ cls := "MatchmakerRules", name := "line", desc := "(I)I" } : Jvm.MethodName) ({ cls := "MatchmakerRules", name := "line", desc := "(I)I" } : Jvm.MethodName)) ∈ lw_all := lw_g (lw_at lw_m7 10 rfl) rfl
theorem q1547 : (Jvm.Cond.code ({ cls := "MatchmakerRules", name := "line", desc := "(I)I" } : Jvm.MethodName) prog_1_method_35_code (2 : Nat) (Option.some Jvm.ClassFile.FieldType.int)) ∈ lw_all := lw_g (lw_at lw_m7 11 rfl) rfl
theorem q1548 : (Jvm.Cond.methodLink "MatchmakerRules" (260 : Nat) ({ cls := "MatchmakerRules$Rule", name := "told", desc := "()Ljava/lang/String;" } : Jvm.MethodName)) ∈ lw_all := lw_g (lw_at lw_m7 12 rfl) rfl
theorem q1739 : (Jvm.Cond.methodLink "MatchmakerRules" (266 : Nat) ({ cls := "java/lang/String", name := "length", desc := "()I" } : Jvm.MethodName)) ∈ lw_all := lw_g (lw_at lw_m7 203 rfl) rfl
theorem q1744 : (Jvm.Cond.instanceMethod ({ cls := "MatchmakerRules", name := "factLine", desc := "(I)I" } : Jvm.MethodName)) ∈ lw_all := lw_g (lw_at lw_m7 208 rfl) rfl
theorem q1745 : (Jvm.Cond.selects "MatchmakerRules" ({ cls := "MatchmakerRules", name := "factLine", desc := "(I)I" } : Jvm.MethodName) ({ cls := "MatchmakerRules", name := "factLine", desc := "(I)I" } : Jvm.MethodName)) ∈ lw_all := lw_g (lw_at lw_m7 209 rfl) rfl
theorem q1746 : (Jvm.Cond.code ({ cls := "MatchmakerRules", name := "factLine", desc := "(I)I" } : Jvm.MethodName) prog_1_method_36_code (2 : Nat) (Option.some Jvm.ClassFile.FieldType.int)) ∈ lw_all := lw_g (lw_at lw_m7 210 rfl) rfl
theorem q1747 : (Jvm.Cond.methodLink "MatchmakerRules" (271 : Nat) ({ cls := "MatchmakerRules$Book", name := "told", desc := "(LMatchmakerRules$Fact;)Ljava/lang/String;" } : Jvm.MethodName)) ∈ lw_all := lw_g (lw_at lw_m7 211 rfl) rfl
theorem q1766 : (Jvm.Cond.instanceMethod ({ cls := "MatchmakerRules", name := "character", desc := "(I)C" } : Jvm.MethodName)) ∈ lw_all := lw_g (lw_at lw_m7 230 rfl) rfl
theorem q1767 : (Jvm.Cond.selects "MatchmakerRules" ({ cls := "MatchmakerRules", name := "character", desc := "(I)C" } : Jvm.MethodName) ({ cls := "MatchmakerRules", name := "character", desc := "(I)C" } : Jvm.MethodName)) ∈ lw_all := lw_g (lw_at lw_m7 231 rfl) rfl
theorem q1768 : (Jvm.Cond.code ({ cls := "MatchmakerRules", name := "character", desc := "(I)C" } : Jvm.MethodName) prog_1_method_37_code (2 : Nat) (Option.some Jvm.ClassFile.FieldType.char)) ∈ lw_all := lw_g (lw_at lw_m7 232 rfl) rfl
theorem q1769 : (Jvm.Cond.methodLink "MatchmakerRules" (274 : Nat) ({ cls := "MatchmakerRules", name := "checkIndex", desc := "(Z)V" } : Jvm.MethodName)) ∈ lw_all := lw_g (lw_at lw_m7 233 rfl) rfl
theorem q1770 : (Jvm.Cond.methodLink "MatchmakerRules" (277 : Nat) ({ cls := "java/lang/String", name := "charAt", desc := "(I)C" } : Jvm.MethodName)) ∈ lw_all := lw_g (lw_at lw_m7 234 rfl) rfl
theorem q1776 : (Jvm.Cond.instanceMethod ({ cls := "MatchmakerRules", name := "refusal", desc := "(Z)I" } : Jvm.MethodName)) ∈ lw_all := lw_g (lw_at lw_m8 0 rfl) rfl
theorem q1777 : (Jvm.Cond.selects "MatchmakerRules" ({ cls := "MatchmakerRules", name := "refusal", desc := "(Z)I" } : Jvm.MethodName) ({ cls := "MatchmakerRules", name := "refusal", desc := "(Z)I" } : Jvm.MethodName)) ∈ lw_all := lw_g (lw_at lw_m8 1 rfl) rfl
theorem q1778 : (Jvm.Cond.code ({ cls := "MatchmakerRules", name := "refusal", desc := "(Z)I" } : Jvm.MethodName) prog_1_method_38_code (2 : Nat) (Option.some Jvm.ClassFile.FieldType.int)) ∈ lw_all := lw_g (lw_at lw_m8 2 rfl) rfl
theorem q1779 : (Jvm.Cond.methodLink "MatchmakerRules" (281 : Nat) ({ cls := "MatchmakerRules", name := "checkState", desc := "(Z)V" } : Jvm.MethodName)) ∈ lw_all := lw_g (lw_at lw_m8 3 rfl) rfl
theorem q1780 : (Jvm.Cond.static ({ cls := "MatchmakerRules", name := "checkState", desc := "(Z)V" } : Jvm.MethodName)) ∈ lw_all := lw_g (lw_at lw_m8 4 rfl) rfl
theorem q1781 : (Jvm.Cond.code ({ cls := "MatchmakerRules", name := "checkState", desc := "(Z)V" } : Jvm.MethodName) prog_1_method_4_code (1 : Nat) (Option.none : Option Jvm.ClassFile.FieldType)) ∈ lw_all := lw_g (lw_at lw_m8 5 rfl) rfl
theorem q1782 : (Jvm.Cond.classLink "MatchmakerRules" (10 : Nat) "java/lang/IllegalStateException") ∈ lw_all := lw_g (lw_at lw_m8 6 rfl) rfl
theorem q1783 : (Jvm.Cond.methodLink "MatchmakerRules" (12 : Nat) ({ cls := "java/lang/IllegalStateException", name := "<init>", desc := "()V" } : Jvm.MethodName)) ∈ lw_all := lw_g (lw_at lw_m8 7 rfl) rfl
theorem q1788 : (Jvm.Cond.instanceMethod ({ cls := "MatchmakerRules", name := "account", desc := "(I)I" } : Jvm.MethodName)) ∈ lw_all := lw_g (lw_at lw_m8 12 rfl) rfl
theorem q1789 : (Jvm.Cond.selects "MatchmakerRules" ({ cls := "MatchmakerRules", name := "account", desc := "(I)I" } : Jvm.MethodName) ({ cls := "MatchmakerRules", name := "account", desc := "(I)I" } : Jvm.MethodName)) ∈ lw_all := lw_g (lw_at lw_m8 13 rfl) rfl
theorem q1790 : (Jvm.Cond.code ({ cls := "MatchmakerRules", name := "account", desc := "(I)I" } : Jvm.MethodName) prog_1_method_39_code (2 : Nat) (Option.some Jvm.ClassFile.FieldType.int)) ∈ lw_all := lw_g (lw_at lw_m8 14 rfl) rfl
theorem q1791 : (Jvm.Cond.methodLink "MatchmakerRules" (293 : Nat) ({ cls := "MatchmakerRules$Book", name := "told", desc := "()I" } : Jvm.MethodName)) ∈ lw_all := lw_g (lw_at lw_m8 15 rfl) rfl
theorem q1795 : (Jvm.Cond.methodLink "MatchmakerRules" (301 : Nat) ({ cls := "MatchmakerRules$Book", name := "reasons", desc := "()I" } : Jvm.MethodName)) ∈ lw_all := lw_g (lw_at lw_m8 19 rfl) rfl
theorem q1799 : (Jvm.Cond.methodLink "MatchmakerRules" (306 : Nat) ({ cls := "MatchmakerRules$Book", name := "greatestDepth", desc := "()I" } : Jvm.MethodName)) ∈ lw_all := lw_g (lw_at lw_m8 23 rfl) rfl
theorem q1800 : (Jvm.Cond.methodLink "MatchmakerRules" (312 : Nat) ({ cls := "java/lang/StringBuilder", name := "length", desc := "()I" } : Jvm.MethodName)) ∈ lw_all := lw_g (lw_at lw_m8 24 rfl) rfl
theorem q1819 : (Jvm.Cond.instanceMethod ({ cls := "MatchmakerRules", name := "meanTrust", desc := "()D" } : Jvm.MethodName)) ∈ lw_all := lw_g (lw_at lw_m8 43 rfl) rfl
theorem q1820 : (Jvm.Cond.selects "MatchmakerRules" ({ cls := "MatchmakerRules", name := "meanTrust", desc := "()D" } : Jvm.MethodName) ({ cls := "MatchmakerRules", name := "meanTrust", desc := "()D" } : Jvm.MethodName)) ∈ lw_all := lw_g (lw_at lw_m8 44 rfl) rfl
theorem q1821 : (Jvm.Cond.code ({ cls := "MatchmakerRules", name := "meanTrust", desc := "()D" } : Jvm.MethodName) prog_1_method_40_code (5 : Nat) (Option.some Jvm.ClassFile.FieldType.double)) ∈ lw_all := lw_g (lw_at lw_m8 45 rfl) rfl
theorem q1822 : (Jvm.Cond.methodLink "MatchmakerRules" (313 : Nat) ({ cls := "java/util/ArrayList", name := "isEmpty", desc := "()Z" } : Jvm.MethodName)) ∈ lw_all := lw_g (lw_at lw_m8 46 rfl) rfl
theorem q1826 : (Jvm.Cond.methodLink "MatchmakerRules" (316 : Nat) ({ cls := "MatchmakerRules", name := "checkNumbers", desc := "(Z)V" } : Jvm.MethodName)) ∈ lw_all := lw_g (lw_at lw_m8 50 rfl) rfl
theorem q1827 : (Jvm.Cond.static ({ cls := "MatchmakerRules", name := "checkNumbers", desc := "(Z)V" } : Jvm.MethodName)) ∈ lw_all := lw_g (lw_at lw_m8 51 rfl) rfl
theorem q1828 : (Jvm.Cond.code ({ cls := "MatchmakerRules", name := "checkNumbers", desc := "(Z)V" } : Jvm.MethodName) prog_1_method_6_code (1 : Nat) (Option.none : Option Jvm.ClassFile.FieldType)) ∈ lw_all := lw_g (lw_at lw_m8 52 rfl) rfl
theorem q1829 : (Jvm.Cond.classLink "MatchmakerRules" (16 : Nat) "java/lang/ArithmeticException") ∈ lw_all := lw_g (lw_at lw_m8 53 rfl) rfl
theorem q1830 : (Jvm.Cond.methodLink "MatchmakerRules" (18 : Nat) ({ cls := "java/lang/ArithmeticException", name := "<init>", desc := "()V" } : Jvm.MethodName)) ∈ lw_all := lw_g (lw_at lw_m8 54 rfl) rfl
theorem q1838 : (Jvm.Cond.instanceMethod ({ cls := "MatchmakerRules", name := "store", desc := "(IZ)I" } : Jvm.MethodName)) ∈ lw_all := lw_g (lw_at lw_m8 62 rfl) rfl
theorem q1839 : (Jvm.Cond.selects "MatchmakerRules" ({ cls := "MatchmakerRules", name := "store", desc := "(IZ)I" } : Jvm.MethodName) ({ cls := "MatchmakerRules", name := "store", desc := "(IZ)I" } : Jvm.MethodName)) ∈ lw_all := lw_g (lw_at lw_m8 63 rfl) rfl
theorem q1840 : (Jvm.Cond.code ({ cls := "MatchmakerRules", name := "store", desc := "(IZ)I" } : Jvm.MethodName) prog_1_method_42_code (6 : Nat) (Option.some Jvm.ClassFile.FieldType.int)) ∈ lw_all := lw_g (lw_at lw_m8 64 rfl) rfl
theorem q1841 : (Jvm.Cond.methodLink "MatchmakerRules" (319 : Nat) ({ cls := "MatchmakerRules", name := "checkRow", desc := "(I)V" } : Jvm.MethodName)) ∈ lw_all := lw_g (lw_at lw_m8 65 rfl) rfl
theorem q1842 : (Jvm.Cond.static ({ cls := "MatchmakerRules", name := "checkRow", desc := "(I)V" } : Jvm.MethodName)) ∈ lw_all := lw_g (lw_at lw_m8 66 rfl) rfl
theorem q1843 : (Jvm.Cond.code ({ cls := "MatchmakerRules", name := "checkRow", desc := "(I)V" } : Jvm.MethodName) prog_1_method_41_code (1 : Nat) (Option.none : Option Jvm.ClassFile.FieldType)) ∈ lw_all := lw_g (lw_at lw_m8 67 rfl) rfl
theorem q1849 : (Jvm.Cond.instanceMethod ({ cls := "MatchmakerRules", name := "copyRow", desc := "(II)I" } : Jvm.MethodName)) ∈ lw_all := lw_g (lw_at lw_m8 73 rfl) rfl
theorem q1850 : (Jvm.Cond.selects "MatchmakerRules" ({ cls := "MatchmakerRules", name := "copyRow", desc := "(II)I" } : Jvm.MethodName) ({ cls := "MatchmakerRules", name := "copyRow", desc := "(II)I" } : Jvm.MethodName)) ∈ lw_all := lw_g (lw_at lw_m8 74 rfl) rfl
theorem q1851 : (Jvm.Cond.codeWith ({ cls := "MatchmakerRules", name := "copyRow", desc := "(II)I" } : Jvm.MethodName) prog_1_method_46_code (7 : Nat) (Option.some Jvm.ClassFile.FieldType.int) [((45 : Nat), (59 : Nat), (62 : Nat), (341 : Nat)), ((45 : Nat), (59 : Nat), (72 : Nat), (7 : Nat))]) ∈ lw_all := lw_g (lw_at lw_m8 75 rfl) rfl
theorem q1852 : (Jvm.Cond.classLink "MatchmakerRules" (341 : Nat) "java/lang/ArrayStoreException") ∈ lw_all := lw_g (lw_at lw_m8 76 rfl) rfl
theorem q1866 : (Jvm.Cond.methodLink "MatchmakerRules" (331 : Nat) ({ cls := "MatchmakerRules", name := "copyOf", desc := "(Ljava/lang/Object;)Ljava/lang/Object;" } : Jvm.MethodName)) ∈ lw_all := lw_g (lw_at lw_m8 90 rfl) rfl
theorem q1867 : (Jvm.Cond.static ({ cls := "MatchmakerRules", name := "copyOf", desc := "(Ljava/lang/Object;)Ljava/lang/Object;" } : Jvm.MethodName)) ∈ lw_all := lw_g (lw_at lw_m8 91 rfl) rfl
theorem q1868 : (Jvm.Cond.code ({ cls := "MatchmakerRules", name := "copyOf", desc := "(Ljava/lang/Object;)Ljava/lang/Object;" } : Jvm.MethodName) prog_1_method_45_code (2 : Nat) (Option.some (Jvm.ClassFile.FieldType.object "java/lang/Object"))) ∈ lw_all := lw_g (lw_at lw_m8 92 rfl) rfl
theorem q1869 : (Jvm.Cond.classLink "MatchmakerRules" (323 : Nat) "[I") ∈ lw_all := lw_g (lw_at lw_m8 93 rfl) rfl
theorem q1870 : (Jvm.Cond.methodLink "MatchmakerRules" (327 : Nat) ({ cls := "[I", name := "clone", desc := "()Ljava/lang/Object;" } : Jvm.MethodName)) ∈ lw_all := lw_g (lw_at lw_m8 94 rfl) rfl
theorem q1871 : (Jvm.Cond.classLink "MatchmakerRules" (325 : Nat) "[F") ∈ lw_all := lw_g (lw_at lw_m8 95 rfl) rfl
theorem q1872 : (Jvm.Cond.methodLink "MatchmakerRules" (330 : Nat) ({ cls := "[F", name := "clone", desc := "()Ljava/lang/Object;" } : Jvm.MethodName)) ∈ lw_all := lw_g (lw_at lw_m8 96 rfl) rfl
theorem q1876 : (Jvm.Cond.methodLink "MatchmakerRules" (335 : Nat) ({ cls := "java/lang/System", name := "arraycopy", desc := "(Ljava/lang/Object;ILjava/lang/Object;II)V" } : Jvm.MethodName)) ∈ lw_all := lw_g (lw_at lw_m8 100 rfl) rfl
theorem q1877 : (Jvm.Cond.methodLink "MatchmakerRules" (343 : Nat) ({ cls := "MatchmakerRules", name := "bits", desc := "(Ljava/lang/Object;I)I" } : Jvm.MethodName)) ∈ lw_all := lw_g (lw_at lw_m8 101 rfl) rfl
theorem q1878 : (Jvm.Cond.static ({ cls := "MatchmakerRules", name := "bits", desc := "(Ljava/lang/Object;I)I" } : Jvm.MethodName)) ∈ lw_all := lw_g (lw_at lw_m8 102 rfl) rfl
theorem q1879 : (Jvm.Cond.code ({ cls := "MatchmakerRules", name := "bits", desc := "(Ljava/lang/Object;I)I" } : Jvm.MethodName) prog_1_method_44_code (3 : Nat) (Option.some Jvm.ClassFile.FieldType.int)) ∈ lw_all := lw_g (lw_at lw_m8 103 rfl) rfl
theorem q1884 : (Jvm.Cond.instanceMethod ({ cls := "MatchmakerRules", name := "element", desc := "(II)I" } : Jvm.MethodName)) ∈ lw_all := lw_g (lw_at lw_m8 108 rfl) rfl
theorem q1885 : (Jvm.Cond.selects "MatchmakerRules" ({ cls := "MatchmakerRules", name := "element", desc := "(II)I" } : Jvm.MethodName) ({ cls := "MatchmakerRules", name := "element", desc := "(II)I" } : Jvm.MethodName)) ∈ lw_all := lw_g (lw_at lw_m8 109 rfl) rfl
theorem q1886 : (Jvm.Cond.code ({ cls := "MatchmakerRules", name := "element", desc := "(II)I" } : Jvm.MethodName) prog_1_method_47_code (3 : Nat) (Option.some Jvm.ClassFile.FieldType.int)) ∈ lw_all := lw_g (lw_at lw_m8 110 rfl) rfl
theorem q1887 : (Jvm.Cond.methodLink "MatchmakerRules" (347 : Nat) ({ cls := "MatchmakerRules", name := "length", desc := "(Ljava/lang/Object;)I" } : Jvm.MethodName)) ∈ lw_all := lw_g (lw_at lw_m8 111 rfl) rfl
theorem q1888 : (Jvm.Cond.static ({ cls := "MatchmakerRules", name := "length", desc := "(Ljava/lang/Object;)I" } : Jvm.MethodName)) ∈ lw_all := lw_g (lw_at lw_m8 112 rfl) rfl
theorem q1889 : (Jvm.Cond.code ({ cls := "MatchmakerRules", name := "length", desc := "(Ljava/lang/Object;)I" } : Jvm.MethodName) prog_1_method_43_code (2 : Nat) (Option.some Jvm.ClassFile.FieldType.int)) ∈ lw_all := lw_g (lw_at lw_m8 113 rfl) rfl
theorem q1894 : (Jvm.Cond.instanceMethod ({ cls := "MatchmakerRules", name := "append", desc := "(I)I" } : Jvm.MethodName)) ∈ lw_all := lw_g (lw_at lw_m8 118 rfl) rfl
theorem q1895 : (Jvm.Cond.selects "MatchmakerRules" ({ cls := "MatchmakerRules", name := "append", desc := "(I)I" } : Jvm.MethodName) ({ cls := "MatchmakerRules", name := "append", desc := "(I)I" } : Jvm.MethodName)) ∈ lw_all := lw_g (lw_at lw_m8 119 rfl) rfl
theorem q1896 : (Jvm.Cond.code ({ cls := "MatchmakerRules", name := "append", desc := "(I)I" } : Jvm.MethodName) prog_1_method_48_code (5 : Nat) (Option.some Jvm.ClassFile.FieldType.int)) ∈ lw_all := lw_g (lw_at lw_m8 120 rfl) rfl
theorem q1897 : (Jvm.Cond.constantLong "MatchmakerRules" (350 : Nat) (32 : Int64)) ∈ lw_all := lw_g (lw_at lw_m8 121 rfl) rfl
theorem q1898 : (Jvm.Cond.constantLong "MatchmakerRules" (352 : Nat) (126 : Int64)) ∈ lw_all := lw_g (lw_at lw_m8 122 rfl) rfl
theorem q1899 : (Jvm.Cond.methodLink "MatchmakerRules" (354 : Nat) ({ cls := "MatchmakerRules", name := "checkArgument", desc := "(Z)V" } : Jvm.MethodName)) ∈ lw_all := lw_g (lw_at lw_m8 123 rfl) rfl
theorem q1900 : (Jvm.Cond.methodLink "MatchmakerRules" (357 : Nat) ({ cls := "java/lang/StringBuilder", name := "append", desc := "(C)Ljava/lang/StringBuilder;" } : Jvm.MethodName)) ∈ lw_all := lw_g (lw_at lw_m8 124 rfl) rfl
theorem q1905 : (Jvm.Cond.instanceMethod ({ cls := "MatchmakerRules", name := "read", desc := "()I" } : Jvm.MethodName)) ∈ lw_all := lw_g (lw_at lw_m8 129 rfl) rfl
theorem q1906 : (Jvm.Cond.selects "MatchmakerRules" ({ cls := "MatchmakerRules", name := "read", desc := "()I" } : Jvm.MethodName) ({ cls := "MatchmakerRules", name := "read", desc := "()I" } : Jvm.MethodName)) ∈ lw_all := lw_g (lw_at lw_m8 130 rfl) rfl
theorem q1907 : (Jvm.Cond.codeWith ({ cls := "MatchmakerRules", name := "read", desc := "()I" } : Jvm.MethodName) prog_1_method_50_code (7 : Nat) (Option.some Jvm.ClassFile.FieldType.int) [((15 : Nat), (57 : Nat), (60 : Nat), (107 : Nat)), ((15 : Nat), (57 : Nat), (81 : Nat), (1 : Nat))]) ∈ lw_all := lw_g (lw_at lw_m8 131 rfl) rfl
theorem q1908 : (Jvm.Cond.methodLink "MatchmakerRules" (365 : Nat) ({ cls := "MatchmakerRules", name := "takeItems", desc := "()Ljava/util/ArrayList;" } : Jvm.MethodName)) ∈ lw_all := lw_g (lw_at lw_m8 132 rfl) rfl
theorem q1909 : (Jvm.Cond.privateMethod ({ cls := "MatchmakerRules", name := "takeItems", desc := "()Ljava/util/ArrayList;" } : Jvm.MethodName)) ∈ lw_tbl := lw_at lw_m8 133 rfl
theorem q1910 : (Jvm.Cond.instanceMethod ({ cls := "MatchmakerRules", name := "takeItems", desc := "()Ljava/util/ArrayList;" } : Jvm.MethodName)) ∈ lw_all := lw_g (lw_at lw_m8 134 rfl) rfl
theorem q1911 : (Jvm.Cond.codeWith ({ cls := "MatchmakerRules", name := "takeItems", desc := "()Ljava/util/ArrayList;" } : Jvm.MethodName) prog_1_method_49_code (2 : Nat) (Option.some (Jvm.ClassFile.FieldType.object "java/util/ArrayList")) [((0 : Nat), (7 : Nat), (8 : Nat), (141 : Nat))]) ∈ lw_all := lw_g (lw_at lw_m8 135 rfl) rfl
theorem q1912 : (Jvm.Cond.methodLink "MatchmakerRules" (361 : Nat) ({ cls := "MatchmakerRules$Parser", name := "items", desc := "()Ljava/util/ArrayList;" } : Jvm.MethodName)) ∈ lw_all := lw_g (lw_at lw_m8 136 rfl) rfl
theorem q1938 : (Jvm.Cond.instanceMethod ({ cls := "MatchmakerRules", name := "errorPosition", desc := "()I" } : Jvm.MethodName)) ∈ lw_all := lw_g (lw_at lw_m8 162 rfl) rfl
theorem q1939 : (Jvm.Cond.selects "MatchmakerRules" ({ cls := "MatchmakerRules", name := "errorPosition", desc := "()I" } : Jvm.MethodName) ({ cls := "MatchmakerRules", name := "errorPosition", desc := "()I" } : Jvm.MethodName)) ∈ lw_all := lw_g (lw_at lw_m8 163 rfl) rfl
theorem q1940 : (Jvm.Cond.code ({ cls := "MatchmakerRules", name := "errorPosition", desc := "()I" } : Jvm.MethodName) prog_1_method_51_code (1 : Nat) (Option.some Jvm.ClassFile.FieldType.int)) ∈ lw_all := lw_g (lw_at lw_m8 164 rfl) rfl
theorem q1945 : (Jvm.Cond.instanceMethod ({ cls := "MatchmakerRules", name := "refusedItem", desc := "()I" } : Jvm.MethodName)) ∈ lw_all := lw_g (lw_at lw_m8 169 rfl) rfl
theorem q1946 : (Jvm.Cond.selects "MatchmakerRules" ({ cls := "MatchmakerRules", name := "refusedItem", desc := "()I" } : Jvm.MethodName) ({ cls := "MatchmakerRules", name := "refusedItem", desc := "()I" } : Jvm.MethodName)) ∈ lw_all := lw_g (lw_at lw_m8 170 rfl) rfl
theorem q1947 : (Jvm.Cond.code ({ cls := "MatchmakerRules", name := "refusedItem", desc := "()I" } : Jvm.MethodName) prog_1_method_52_code (1 : Nat) (Option.some Jvm.ClassFile.FieldType.int)) ∈ lw_all := lw_g (lw_at lw_m8 171 rfl) rfl
theorem q1952 : (Jvm.Cond.instanceMethod ({ cls := "MatchmakerRules", name := "undo", desc := "()I" } : Jvm.MethodName)) ∈ lw_all := lw_g (lw_at lw_m8 176 rfl) rfl
theorem q1953 : (Jvm.Cond.selects "MatchmakerRules" ({ cls := "MatchmakerRules", name := "undo", desc := "()I" } : Jvm.MethodName) ({ cls := "MatchmakerRules", name := "undo", desc := "()I" } : Jvm.MethodName)) ∈ lw_all := lw_g (lw_at lw_m8 177 rfl) rfl
theorem q1954 : (Jvm.Cond.code ({ cls := "MatchmakerRules", name := "undo", desc := "()I" } : Jvm.MethodName) prog_1_method_53_code (1 : Nat) (Option.some Jvm.ClassFile.FieldType.int)) ∈ lw_all := lw_g (lw_at lw_m8 178 rfl) rfl
theorem q1955 : (Jvm.Cond.methodLink "MatchmakerRules" (371 : Nat) ({ cls := "java/util/ArrayDeque", name := "isEmpty", desc := "()Z" } : Jvm.MethodName)) ∈ lw_all := lw_g (lw_at lw_m8 179 rfl) rfl
theorem q1959 : (Jvm.Cond.methodLink "MatchmakerRules" (372 : Nat) ({ cls := "java/util/ArrayDeque", name := "removeLast", desc := "()Ljava/lang/Object;" } : Jvm.MethodName)) ∈ lw_all := lw_g (lw_at lw_m8 183 rfl) rfl
theorem q1974 : (Jvm.Cond.instanceMethod ({ cls := "MatchmakerRules", name := "restore", desc := "()I" } : Jvm.MethodName)) ∈ lw_all := lw_g (lw_at lw_m8 198 rfl) rfl
theorem q1975 : (Jvm.Cond.selects "MatchmakerRules" ({ cls := "MatchmakerRules", name := "restore", desc := "()I" } : Jvm.MethodName) ({ cls := "MatchmakerRules", name := "restore", desc := "()I" } : Jvm.MethodName)) ∈ lw_all := lw_g (lw_at lw_m8 199 rfl) rfl
theorem q1976 : (Jvm.Cond.code ({ cls := "MatchmakerRules", name := "restore", desc := "()I" } : Jvm.MethodName) prog_1_method_55_code (1 : Nat) (Option.some Jvm.ClassFile.FieldType.int)) ∈ lw_all := lw_g (lw_at lw_m8 200 rfl) rfl
theorem q2527 : (Jvm.Cond.castable "MatchmakerRules" "java/lang/Object") ∈ lw_tbl := lw_at lw_m11 31 rfl
theorem in_X1 : ∀ w ∈ wsX10, w ∈ lw_all := lw_in wsX10 [309, 311, 313, 315, 317, 319, 321, 323, 325] (by decide +kernel) (by decide +kernel)
/-! MatchmakerRules$Book -/
set_option maxRecDepth 100000
def RX2 : String := "MatchmakerRules$Book"
def TX2 : u_T := fun k => match k with
  | 0 => ("MatchmakerRules$Book", "walks", "LMatchmakerRules$Book$Walk;", true)
  | 1 => ("MatchmakerRules$Book", "rules", "Ljava/util/ArrayList;", true)
  | 2 => ("MatchmakerRules$Book", "facts", "Ljava/util/ArrayList;", true)
  | 3 => ("MatchmakerRules$Book", "came", "I", false)
  | 4 => ("MatchmakerRules$Book", "gone", "I", false)
  | 5 => ("MatchmakerRules$Book", "firings", "I", false)
  | _ => ("MatchmakerRules$Book", "idle", "I", false)
def tyX2 : Nat → FieldType := fun k => match k with
  | 0 => .object "MatchmakerRules$Book$Walk"
  | 1 => .object "java/util/ArrayList"
  | 2 => .object "java/util/ArrayList"
  | 3 => .int
  | 4 => .int
  | 5 => .int
  | _ => .int
abbrev wsX20 : List Cond := u_ws RX2 TX2 7
theorem nmX2 : ∀ a, a < 7 → ∀ b, b < 7 → a ≠ b → (TX2 a).2.1 ≠ (TX2 b).2.1 := by decide +kernel
theorem tyX2_ok : ∀ k, k < 7 → parseFieldDescriptor (TX2 k).2.2.1 = some (tyX2 k) := by decide +kernel
abbrev cX2_init : ByteArray := prog_2_method_1_code
def yX2_init : MethodName := ⟨RX2, "<init>", "()V"⟩
def dkwX2_init_1 : List UInt8 := [181, 0, 23, 42, 187, 0, 20, 89, 183, 0, 22, 181, 0, 27, 177]
abbrev dktX2_init_1 : List UInt8 := dkwX2_init_1 ++ []
def dkwX2_init_0 : List UInt8 := [42, 183, 0, 3, 42, 187, 0, 9, 89, 42, 183, 0, 11, 181, 0, 14, 42, 187, 0, 20, 89, 183, 0, 22]
abbrev dktX2_init_0 : List UInt8 := dkwX2_init_0 ++ dktX2_init_1
theorem dksX2_init_0 : cX2_init.data.toList.drop 0 = dktX2_init_0 := by decide +kernel
theorem dksX2_init_1 : cX2_init.data.toList.drop 24 = dktX2_init_1 := dk_seg dksX2_init_0 24 rfl rfl
theorem dX2_init_0 : decode cX2_init 0 = .ok (.aload_n 0, 1) := dk_42 (dk_at dksX2_init_0 0 rfl rfl)
theorem dX2_init_1 : decode cX2_init 1 = .ok (.invokespecial 3, 3) := dk_183 0 3 (dk_at dksX2_init_0 1 rfl rfl)
theorem dX2_init_4 : decode cX2_init 4 = .ok (.aload_n 0, 1) := dk_42 (dk_at dksX2_init_0 4 rfl rfl)
theorem dX2_init_5 : decode cX2_init 5 = .ok (.new 9, 3) := dk_187 0 9 (dk_at dksX2_init_0 5 rfl rfl)
theorem dX2_init_8 : decode cX2_init 8 = .ok (.dup, 1) := dk_89 (dk_at dksX2_init_0 8 rfl rfl)
theorem dX2_init_9 : decode cX2_init 9 = .ok (.aload_n 0, 1) := dk_42 (dk_at dksX2_init_0 9 rfl rfl)
theorem dX2_init_10 : decode cX2_init 10 = .ok (.invokespecial 11, 3) := dk_183 0 11 (dk_at dksX2_init_0 10 rfl rfl)
theorem dX2_init_13 : decode cX2_init 13 = .ok (.putfield 14, 3) := dk_181 0 14 (dk_at dksX2_init_0 13 rfl rfl)
theorem dX2_init_16 : decode cX2_init 16 = .ok (.aload_n 0, 1) := dk_42 (dk_at dksX2_init_0 16 rfl rfl)
theorem dX2_init_17 : decode cX2_init 17 = .ok (.new 20, 3) := dk_187 0 20 (dk_at dksX2_init_0 17 rfl rfl)
theorem dX2_init_20 : decode cX2_init 20 = .ok (.dup, 1) := dk_89 (dk_at dksX2_init_0 20 rfl rfl)
theorem dX2_init_21 : decode cX2_init 21 = .ok (.invokespecial 22, 3) := dk_183 0 22 (dk_at dksX2_init_0 21 rfl rfl)
theorem dX2_init_24 : decode cX2_init 24 = .ok (.putfield 23, 3) := dk_181 0 23 (dk_at dksX2_init_1 0 rfl rfl)
theorem dX2_init_27 : decode cX2_init 27 = .ok (.aload_n 0, 1) := dk_42 (dk_at dksX2_init_1 3 rfl rfl)
theorem dX2_init_28 : decode cX2_init 28 = .ok (.new 20, 3) := dk_187 0 20 (dk_at dksX2_init_1 4 rfl rfl)
theorem dX2_init_31 : decode cX2_init 31 = .ok (.dup, 1) := dk_89 (dk_at dksX2_init_1 7 rfl rfl)
theorem dX2_init_32 : decode cX2_init 32 = .ok (.invokespecial 22, 3) := dk_183 0 22 (dk_at dksX2_init_1 8 rfl rfl)
theorem dX2_init_35 : decode cX2_init 35 = .ok (.putfield 27, 3) := dk_181 0 27 (dk_at dksX2_init_1 11 rfl rfl)
theorem dX2_init_38 : decode cX2_init 38 = .ok (.return_, 1) := dk_177 (dk_at dksX2_init_1 14 rfl rfl)
abbrev cX2_dueAgain : ByteArray := prog_2_method_10_code
def yX2_dueAgain : MethodName := ⟨RX2, "dueAgain", "()I"⟩
def dkwX2_dueAgain_4 : List UInt8 := [153, 0, 7, 4, 167, 0, 4, 3, 96, 60, 167, 255, 220, 132, 4, 1, 167, 255, 181, 167, 255, 156, 27, 172]
abbrev dktX2_dueAgain_4 : List UInt8 := dkwX2_dueAgain_4 ++ []
def dkwX2_dueAgain_3 : List UInt8 := [182, 0, 104, 153, 0, 34, 27, 25, 5, 182, 0, 110, 45, 180, 0, 74, 160, 0, 15, 25, 5, 182, 0, 107]
abbrev dktX2_dueAgain_3 : List UInt8 := dkwX2_dueAgain_3 ++ dktX2_dueAgain_4
def dkwX2_dueAgain_2 : List UInt8 := [42, 180, 0, 14, 42, 180, 0, 23, 21, 4, 182, 0, 96, 192, 0, 45, 182, 0, 100, 58, 5, 25, 5]
abbrev dktX2_dueAgain_2 : List UInt8 := dkwX2_dueAgain_2 ++ dktX2_dueAgain_3
def dkwX2_dueAgain_1 : List UInt8 := [185, 0, 41, 1, 0, 192, 0, 51, 78, 3, 54, 4, 21, 4, 42, 180, 0, 23, 182, 0, 85, 162, 0, 69]
abbrev dktX2_dueAgain_1 : List UInt8 := dkwX2_dueAgain_1 ++ dktX2_dueAgain_2
def dkwX2_dueAgain_0 : List UInt8 := [3, 60, 42, 180, 0, 27, 182, 0, 31, 77, 44, 185, 0, 35, 1, 0, 153, 0, 97, 44]
abbrev dktX2_dueAgain_0 : List UInt8 := dkwX2_dueAgain_0 ++ dktX2_dueAgain_1
theorem dksX2_dueAgain_0 : cX2_dueAgain.data.toList.drop 0 = dktX2_dueAgain_0 := by decide +kernel
theorem dksX2_dueAgain_1 : cX2_dueAgain.data.toList.drop 20 = dktX2_dueAgain_1 := dk_seg dksX2_dueAgain_0 20 rfl rfl
theorem dksX2_dueAgain_2 : cX2_dueAgain.data.toList.drop 44 = dktX2_dueAgain_2 := dk_seg dksX2_dueAgain_1 24 rfl rfl
theorem dksX2_dueAgain_3 : cX2_dueAgain.data.toList.drop 67 = dktX2_dueAgain_3 := dk_seg dksX2_dueAgain_2 23 rfl rfl
theorem dksX2_dueAgain_4 : cX2_dueAgain.data.toList.drop 91 = dktX2_dueAgain_4 := dk_seg dksX2_dueAgain_3 24 rfl rfl
theorem dX2_dueAgain_0 : decode cX2_dueAgain 0 = .ok (.iconst 0, 1) := dk_3 (dk_at dksX2_dueAgain_0 0 rfl rfl)
theorem dX2_dueAgain_1 : decode cX2_dueAgain 1 = .ok (.istore_n 1, 1) := dk_60 (dk_at dksX2_dueAgain_0 1 rfl rfl)
theorem dX2_dueAgain_2 : decode cX2_dueAgain 2 = .ok (.aload_n 0, 1) := dk_42 (dk_at dksX2_dueAgain_0 2 rfl rfl)
theorem dX2_dueAgain_3 : decode cX2_dueAgain 3 = .ok (.getfield 27, 3) := dk_180 0 27 (dk_at dksX2_dueAgain_0 3 rfl rfl)
theorem dX2_dueAgain_6 : decode cX2_dueAgain 6 = .ok (.invokevirtual 31, 3) := dk_182 0 31 (dk_at dksX2_dueAgain_0 6 rfl rfl)
theorem dX2_dueAgain_9 : decode cX2_dueAgain 9 = .ok (.astore_n 2, 1) := dk_77 (dk_at dksX2_dueAgain_0 9 rfl rfl)
theorem dX2_dueAgain_10 : decode cX2_dueAgain 10 = .ok (.aload_n 2, 1) := dk_44 (dk_at dksX2_dueAgain_0 10 rfl rfl)
theorem dX2_dueAgain_11 : decode cX2_dueAgain 11 = .ok (.invokeinterface 35 1, 5) := by decide +kernel
theorem dX2_dueAgain_16 : decode cX2_dueAgain 16 = .ok (.ifCond .eq 97, 3) := dk_153 0 97 (dk_at dksX2_dueAgain_0 16 rfl rfl)
theorem dX2_dueAgain_19 : decode cX2_dueAgain 19 = .ok (.aload_n 2, 1) := dk_44 (dk_at dksX2_dueAgain_0 19 rfl rfl)
theorem dX2_dueAgain_20 : decode cX2_dueAgain 20 = .ok (.invokeinterface 41 1, 5) := by decide +kernel
theorem dX2_dueAgain_25 : decode cX2_dueAgain 25 = .ok (.checkcast 51, 3) := dk_192 0 51 (dk_at dksX2_dueAgain_1 5 rfl rfl)
theorem dX2_dueAgain_28 : decode cX2_dueAgain 28 = .ok (.astore_n 3, 1) := dk_78 (dk_at dksX2_dueAgain_1 8 rfl rfl)
theorem dX2_dueAgain_29 : decode cX2_dueAgain 29 = .ok (.iconst 0, 1) := dk_3 (dk_at dksX2_dueAgain_1 9 rfl rfl)
theorem dX2_dueAgain_30 : decode cX2_dueAgain 30 = .ok (.istore 4, 2) := dk_54 4 (dk_at dksX2_dueAgain_1 10 rfl rfl)
theorem dX2_dueAgain_32 : decode cX2_dueAgain 32 = .ok (.iload 4, 2) := dk_21 4 (dk_at dksX2_dueAgain_1 12 rfl rfl)
theorem dX2_dueAgain_34 : decode cX2_dueAgain 34 = .ok (.aload_n 0, 1) := dk_42 (dk_at dksX2_dueAgain_1 14 rfl rfl)
theorem dX2_dueAgain_35 : decode cX2_dueAgain 35 = .ok (.getfield 23, 3) := dk_180 0 23 (dk_at dksX2_dueAgain_1 15 rfl rfl)
theorem dX2_dueAgain_38 : decode cX2_dueAgain 38 = .ok (.invokevirtual 85, 3) := dk_182 0 85 (dk_at dksX2_dueAgain_1 18 rfl rfl)
theorem dX2_dueAgain_41 : decode cX2_dueAgain 41 = .ok (.if_icmp .ge 69, 3) := dk_162 0 69 (dk_at dksX2_dueAgain_1 21 rfl rfl)
theorem dX2_dueAgain_44 : decode cX2_dueAgain 44 = .ok (.aload_n 0, 1) := dk_42 (dk_at dksX2_dueAgain_2 0 rfl rfl)
theorem dX2_dueAgain_45 : decode cX2_dueAgain 45 = .ok (.getfield 14, 3) := dk_180 0 14 (dk_at dksX2_dueAgain_2 1 rfl rfl)
theorem dX2_dueAgain_48 : decode cX2_dueAgain 48 = .ok (.aload_n 0, 1) := dk_42 (dk_at dksX2_dueAgain_2 4 rfl rfl)
theorem dX2_dueAgain_49 : decode cX2_dueAgain 49 = .ok (.getfield 23, 3) := dk_180 0 23 (dk_at dksX2_dueAgain_2 5 rfl rfl)
theorem dX2_dueAgain_52 : decode cX2_dueAgain 52 = .ok (.iload 4, 2) := dk_21 4 (dk_at dksX2_dueAgain_2 8 rfl rfl)
theorem dX2_dueAgain_54 : decode cX2_dueAgain 54 = .ok (.invokevirtual 96, 3) := dk_182 0 96 (dk_at dksX2_dueAgain_2 10 rfl rfl)
theorem dX2_dueAgain_57 : decode cX2_dueAgain 57 = .ok (.checkcast 45, 3) := dk_192 0 45 (dk_at dksX2_dueAgain_2 13 rfl rfl)
theorem dX2_dueAgain_60 : decode cX2_dueAgain 60 = .ok (.invokevirtual 100, 3) := dk_182 0 100 (dk_at dksX2_dueAgain_2 16 rfl rfl)
theorem dX2_dueAgain_63 : decode cX2_dueAgain 63 = .ok (.astore 5, 2) := dk_58 5 (dk_at dksX2_dueAgain_2 19 rfl rfl)
theorem dX2_dueAgain_65 : decode cX2_dueAgain 65 = .ok (.aload 5, 2) := dk_25 5 (dk_at dksX2_dueAgain_2 21 rfl rfl)
theorem dX2_dueAgain_67 : decode cX2_dueAgain 67 = .ok (.invokevirtual 104, 3) := dk_182 0 104 (dk_at dksX2_dueAgain_3 0 rfl rfl)
theorem dX2_dueAgain_70 : decode cX2_dueAgain 70 = .ok (.ifCond .eq 34, 3) := dk_153 0 34 (dk_at dksX2_dueAgain_3 3 rfl rfl)
theorem dX2_dueAgain_73 : decode cX2_dueAgain 73 = .ok (.iload_n 1, 1) := dk_27 (dk_at dksX2_dueAgain_3 6 rfl rfl)
theorem dX2_dueAgain_74 : decode cX2_dueAgain 74 = .ok (.aload 5, 2) := dk_25 5 (dk_at dksX2_dueAgain_3 7 rfl rfl)
theorem dX2_dueAgain_76 : decode cX2_dueAgain 76 = .ok (.invokevirtual 110, 3) := dk_182 0 110 (dk_at dksX2_dueAgain_3 9 rfl rfl)
theorem dX2_dueAgain_79 : decode cX2_dueAgain 79 = .ok (.aload_n 3, 1) := dk_45 (dk_at dksX2_dueAgain_3 12 rfl rfl)
theorem dX2_dueAgain_80 : decode cX2_dueAgain 80 = .ok (.getfield 74, 3) := dk_180 0 74 (dk_at dksX2_dueAgain_3 13 rfl rfl)
theorem dX2_dueAgain_83 : decode cX2_dueAgain 83 = .ok (.if_icmp .ne 15, 3) := dk_160 0 15 (dk_at dksX2_dueAgain_3 16 rfl rfl)
theorem dX2_dueAgain_86 : decode cX2_dueAgain 86 = .ok (.aload 5, 2) := dk_25 5 (dk_at dksX2_dueAgain_3 19 rfl rfl)
theorem dX2_dueAgain_88 : decode cX2_dueAgain 88 = .ok (.invokevirtual 107, 3) := dk_182 0 107 (dk_at dksX2_dueAgain_3 21 rfl rfl)
theorem dX2_dueAgain_91 : decode cX2_dueAgain 91 = .ok (.ifCond .eq 7, 3) := dk_153 0 7 (dk_at dksX2_dueAgain_4 0 rfl rfl)
theorem dX2_dueAgain_94 : decode cX2_dueAgain 94 = .ok (.iconst 1, 1) := dk_4 (dk_at dksX2_dueAgain_4 3 rfl rfl)
theorem dX2_dueAgain_95 : decode cX2_dueAgain 95 = .ok (.goto 4, 3) := dk_167 0 4 (dk_at dksX2_dueAgain_4 4 rfl rfl)
theorem dX2_dueAgain_98 : decode cX2_dueAgain 98 = .ok (.iconst 0, 1) := dk_3 (dk_at dksX2_dueAgain_4 7 rfl rfl)
theorem dX2_dueAgain_99 : decode cX2_dueAgain 99 = .ok (.iadd, 1) := dk_96 (dk_at dksX2_dueAgain_4 8 rfl rfl)
theorem dX2_dueAgain_100 : decode cX2_dueAgain 100 = .ok (.istore_n 1, 1) := dk_60 (dk_at dksX2_dueAgain_4 9 rfl rfl)
theorem dX2_dueAgain_101 : decode cX2_dueAgain 101 = .ok (.goto (-36), 3) := dk_167 255 220 (dk_at dksX2_dueAgain_4 10 rfl rfl)
theorem dX2_dueAgain_104 : decode cX2_dueAgain 104 = .ok (.iinc 4 1, 3) := dk_132 4 1 (dk_at dksX2_dueAgain_4 13 rfl rfl)
theorem dX2_dueAgain_107 : decode cX2_dueAgain 107 = .ok (.goto (-75), 3) := dk_167 255 181 (dk_at dksX2_dueAgain_4 16 rfl rfl)
theorem dX2_dueAgain_110 : decode cX2_dueAgain 110 = .ok (.goto (-100), 3) := dk_167 255 156 (dk_at dksX2_dueAgain_4 19 rfl rfl)
theorem dX2_dueAgain_113 : decode cX2_dueAgain 113 = .ok (.iload_n 1, 1) := dk_27 (dk_at dksX2_dueAgain_4 22 rfl rfl)
theorem dX2_dueAgain_114 : decode cX2_dueAgain 114 = .ok (.ireturn, 1) := dk_172 (dk_at dksX2_dueAgain_4 23 rfl rfl)
abbrev cX2_free : ByteArray := prog_2_method_7_code
def yX2_free : MethodName := ⟨RX2, "free", "([I)V"⟩
def dkwX2_free_0 : List UInt8 := [3, 60, 27, 6, 162, 0, 13, 42, 27, 2, 79, 132, 1, 1, 167, 255, 244, 177]
abbrev dktX2_free_0 : List UInt8 := dkwX2_free_0 ++ []
theorem dksX2_free_0 : cX2_free.data.toList.drop 0 = dktX2_free_0 := by decide +kernel
theorem dX2_free_0 : decode cX2_free 0 = .ok (.iconst 0, 1) := dk_3 (dk_at dksX2_free_0 0 rfl rfl)
theorem dX2_free_1 : decode cX2_free 1 = .ok (.istore_n 1, 1) := dk_60 (dk_at dksX2_free_0 1 rfl rfl)
theorem dX2_free_2 : decode cX2_free 2 = .ok (.iload_n 1, 1) := dk_27 (dk_at dksX2_free_0 2 rfl rfl)
theorem dX2_free_3 : decode cX2_free 3 = .ok (.iconst 3, 1) := dk_6 (dk_at dksX2_free_0 3 rfl rfl)
theorem dX2_free_4 : decode cX2_free 4 = .ok (.if_icmp .ge 13, 3) := dk_162 0 13 (dk_at dksX2_free_0 4 rfl rfl)
theorem dX2_free_7 : decode cX2_free 7 = .ok (.aload_n 0, 1) := dk_42 (dk_at dksX2_free_0 7 rfl rfl)
theorem dX2_free_8 : decode cX2_free 8 = .ok (.iload_n 1, 1) := dk_27 (dk_at dksX2_free_0 8 rfl rfl)
theorem dX2_free_9 : decode cX2_free 9 = .ok (.iconst (-1), 1) := dk_2 (dk_at dksX2_free_0 9 rfl rfl)
theorem dX2_free_10 : decode cX2_free 10 = .ok (.iastore, 1) := dk_79 (dk_at dksX2_free_0 10 rfl rfl)
theorem dX2_free_11 : decode cX2_free 11 = .ok (.iinc 1 1, 3) := dk_132 1 1 (dk_at dksX2_free_0 11 rfl rfl)
theorem dX2_free_14 : decode cX2_free 14 = .ok (.goto (-12), 3) := dk_167 255 244 (dk_at dksX2_free_0 14 rfl rfl)
theorem dX2_free_17 : decode cX2_free 17 = .ok (.return_, 1) := dk_177 (dk_at dksX2_free_0 17 rfl rfl)
abbrev cX2_due : ByteArray := prog_2_method_9_code
def yX2_due : MethodName := ⟨RX2, "due", "()I"⟩
def dkwX2_due_3 : List UInt8 := [167, 255, 200, 27, 172]
abbrev dktX2_due_3 : List UInt8 := dkwX2_due_3 ++ []
def dkwX2_due_2 : List UInt8 := [153, 0, 22, 27, 25, 4, 182, 0, 107, 153, 0, 7, 4, 167, 0, 4, 3, 96, 60, 167, 255, 232]
abbrev dktX2_due_2 : List UInt8 := dkwX2_due_2 ++ dktX2_due_3
def dkwX2_due_1 : List UInt8 := [185, 0, 41, 1, 0, 192, 0, 45, 78, 42, 180, 0, 14, 45, 182, 0, 100, 58, 4, 25, 4, 182, 0, 104]
abbrev dktX2_due_1 : List UInt8 := dkwX2_due_1 ++ dktX2_due_2
def dkwX2_due_0 : List UInt8 := [3, 60, 42, 180, 0, 23, 182, 0, 31, 77, 44, 185, 0, 35, 1, 0, 153, 0, 53, 44]
abbrev dktX2_due_0 : List UInt8 := dkwX2_due_0 ++ dktX2_due_1
theorem dksX2_due_0 : cX2_due.data.toList.drop 0 = dktX2_due_0 := by decide +kernel
theorem dksX2_due_1 : cX2_due.data.toList.drop 20 = dktX2_due_1 := dk_seg dksX2_due_0 20 rfl rfl
theorem dksX2_due_2 : cX2_due.data.toList.drop 44 = dktX2_due_2 := dk_seg dksX2_due_1 24 rfl rfl
theorem dksX2_due_3 : cX2_due.data.toList.drop 66 = dktX2_due_3 := dk_seg dksX2_due_2 22 rfl rfl
theorem dX2_due_0 : decode cX2_due 0 = .ok (.iconst 0, 1) := dk_3 (dk_at dksX2_due_0 0 rfl rfl)
theorem dX2_due_1 : decode cX2_due 1 = .ok (.istore_n 1, 1) := dk_60 (dk_at dksX2_due_0 1 rfl rfl)
theorem dX2_due_2 : decode cX2_due 2 = .ok (.aload_n 0, 1) := dk_42 (dk_at dksX2_due_0 2 rfl rfl)
theorem dX2_due_3 : decode cX2_due 3 = .ok (.getfield 23, 3) := dk_180 0 23 (dk_at dksX2_due_0 3 rfl rfl)
theorem dX2_due_6 : decode cX2_due 6 = .ok (.invokevirtual 31, 3) := dk_182 0 31 (dk_at dksX2_due_0 6 rfl rfl)
theorem dX2_due_9 : decode cX2_due 9 = .ok (.astore_n 2, 1) := dk_77 (dk_at dksX2_due_0 9 rfl rfl)
theorem dX2_due_10 : decode cX2_due 10 = .ok (.aload_n 2, 1) := dk_44 (dk_at dksX2_due_0 10 rfl rfl)
theorem dX2_due_11 : decode cX2_due 11 = .ok (.invokeinterface 35 1, 5) := by decide +kernel
theorem dX2_due_16 : decode cX2_due 16 = .ok (.ifCond .eq 53, 3) := dk_153 0 53 (dk_at dksX2_due_0 16 rfl rfl)
theorem dX2_due_19 : decode cX2_due 19 = .ok (.aload_n 2, 1) := dk_44 (dk_at dksX2_due_0 19 rfl rfl)
theorem dX2_due_20 : decode cX2_due 20 = .ok (.invokeinterface 41 1, 5) := by decide +kernel
theorem dX2_due_25 : decode cX2_due 25 = .ok (.checkcast 45, 3) := dk_192 0 45 (dk_at dksX2_due_1 5 rfl rfl)
theorem dX2_due_28 : decode cX2_due 28 = .ok (.astore_n 3, 1) := dk_78 (dk_at dksX2_due_1 8 rfl rfl)
theorem dX2_due_29 : decode cX2_due 29 = .ok (.aload_n 0, 1) := dk_42 (dk_at dksX2_due_1 9 rfl rfl)
theorem dX2_due_30 : decode cX2_due 30 = .ok (.getfield 14, 3) := dk_180 0 14 (dk_at dksX2_due_1 10 rfl rfl)
theorem dX2_due_33 : decode cX2_due 33 = .ok (.aload_n 3, 1) := dk_45 (dk_at dksX2_due_1 13 rfl rfl)
theorem dX2_due_34 : decode cX2_due 34 = .ok (.invokevirtual 100, 3) := dk_182 0 100 (dk_at dksX2_due_1 14 rfl rfl)
theorem dX2_due_37 : decode cX2_due 37 = .ok (.astore 4, 2) := dk_58 4 (dk_at dksX2_due_1 17 rfl rfl)
theorem dX2_due_39 : decode cX2_due 39 = .ok (.aload 4, 2) := dk_25 4 (dk_at dksX2_due_1 19 rfl rfl)
theorem dX2_due_41 : decode cX2_due 41 = .ok (.invokevirtual 104, 3) := dk_182 0 104 (dk_at dksX2_due_1 21 rfl rfl)
theorem dX2_due_44 : decode cX2_due 44 = .ok (.ifCond .eq 22, 3) := dk_153 0 22 (dk_at dksX2_due_2 0 rfl rfl)
theorem dX2_due_47 : decode cX2_due 47 = .ok (.iload_n 1, 1) := dk_27 (dk_at dksX2_due_2 3 rfl rfl)
theorem dX2_due_48 : decode cX2_due 48 = .ok (.aload 4, 2) := dk_25 4 (dk_at dksX2_due_2 4 rfl rfl)
theorem dX2_due_50 : decode cX2_due 50 = .ok (.invokevirtual 107, 3) := dk_182 0 107 (dk_at dksX2_due_2 6 rfl rfl)
theorem dX2_due_53 : decode cX2_due 53 = .ok (.ifCond .eq 7, 3) := dk_153 0 7 (dk_at dksX2_due_2 9 rfl rfl)
theorem dX2_due_56 : decode cX2_due 56 = .ok (.iconst 1, 1) := dk_4 (dk_at dksX2_due_2 12 rfl rfl)
theorem dX2_due_57 : decode cX2_due 57 = .ok (.goto 4, 3) := dk_167 0 4 (dk_at dksX2_due_2 13 rfl rfl)
theorem dX2_due_60 : decode cX2_due 60 = .ok (.iconst 0, 1) := dk_3 (dk_at dksX2_due_2 16 rfl rfl)
theorem dX2_due_61 : decode cX2_due 61 = .ok (.iadd, 1) := dk_96 (dk_at dksX2_due_2 17 rfl rfl)
theorem dX2_due_62 : decode cX2_due 62 = .ok (.istore_n 1, 1) := dk_60 (dk_at dksX2_due_2 18 rfl rfl)
theorem dX2_due_63 : decode cX2_due 63 = .ok (.goto (-24), 3) := dk_167 255 232 (dk_at dksX2_due_2 19 rfl rfl)
theorem dX2_due_66 : decode cX2_due 66 = .ok (.goto (-56), 3) := dk_167 255 200 (dk_at dksX2_due_3 0 rfl rfl)
theorem dX2_due_69 : decode cX2_due 69 = .ok (.iload_n 1, 1) := dk_27 (dk_at dksX2_due_3 3 rfl rfl)
theorem dX2_due_70 : decode cX2_due 70 = .ok (.ireturn, 1) := dk_172 (dk_at dksX2_due_3 4 rfl rfl)
abbrev cX2_isInOrder : ByteArray := prog_2_method_35_code
def yX2_isInOrder : MethodName := ⟨RX2, "isInOrder", "()Z"⟩
def dkwX2_isInOrder_9 : List UInt8 := [167, 255, 196, 167, 255, 71, 27, 172]
abbrev dktX2_isInOrder_9 : List UInt8 := dkwX2_isInOrder_9 ++ []
def dkwX2_isInOrder_8 : List UInt8 := [180, 0, 183, 25, 5, 186, 1, 33, 0, 0, 184, 1, 15, 4, 160, 0, 7, 4, 167, 0, 4, 3, 126, 60]
abbrev dktX2_isInOrder_8 : List UInt8 := dkwX2_isInOrder_8 ++ dktX2_isInOrder_9
def dkwX2_isInOrder_7 : List UInt8 := [185, 0, 41, 1, 0, 192, 0, 113, 58, 5, 27, 25, 5, 180, 0, 146, 45, 180, 0, 74, 160, 0, 25, 45]
abbrev dktX2_isInOrder_7 : List UInt8 := dkwX2_isInOrder_7 ++ dktX2_isInOrder_8
def dkwX2_isInOrder_6 : List UInt8 := [180, 0, 183, 182, 0, 31, 58, 4, 25, 4, 185, 0, 35, 1, 0, 153, 0, 56, 25, 4]
abbrev dktX2_isInOrder_6 : List UInt8 := dkwX2_isInOrder_6 ++ dktX2_isInOrder_7
def dkwX2_isInOrder_5 : List UInt8 := [25, 5, 180, 0, 148, 182, 1, 29, 153, 0, 7, 4, 167, 0, 4, 3, 126, 60, 167, 255, 202, 45]
abbrev dktX2_isInOrder_5 : List UInt8 := dkwX2_isInOrder_5 ++ dktX2_isInOrder_6
def dkwX2_isInOrder_4 : List UInt8 := [185, 0, 41, 1, 0, 192, 0, 113, 58, 5, 27, 42, 25, 5, 180, 0, 146, 182, 1, 29, 153, 0, 19, 42]
abbrev dktX2_isInOrder_4 : List UInt8 := dkwX2_isInOrder_4 ++ dktX2_isInOrder_5
def dkwX2_isInOrder_3 : List UInt8 := [60, 45, 180, 0, 186, 182, 0, 31, 58, 4, 25, 4, 185, 0, 35, 1, 0, 153, 0, 50, 25, 4]
abbrev dktX2_isInOrder_3 : List UInt8 := dkwX2_isInOrder_3 ++ dktX2_isInOrder_4
def dkwX2_isInOrder_2 : List UInt8 := [180, 1, 26, 45, 180, 1, 27, 45, 180, 1, 28, 182, 0, 172, 45, 166, 0, 7, 4, 167, 0, 4, 3, 126]
abbrev dktX2_isInOrder_2 : List UInt8 := dkwX2_isInOrder_2 ++ dktX2_isInOrder_3
def dkwX2_isInOrder_1 : List UInt8 := [44, 185, 0, 35, 1, 0, 153, 0, 182, 44, 185, 0, 41, 1, 0, 192, 0, 51, 78, 27, 42, 45]
abbrev dktX2_isInOrder_1 : List UInt8 := dkwX2_isInOrder_1 ++ dktX2_isInOrder_2
def dkwX2_isInOrder_0 : List UInt8 := [42, 182, 1, 23, 17, 3, 232, 162, 0, 7, 4, 167, 0, 4, 3, 60, 42, 180, 0, 27, 182, 0, 31, 77]
abbrev dktX2_isInOrder_0 : List UInt8 := dkwX2_isInOrder_0 ++ dktX2_isInOrder_1
theorem dksX2_isInOrder_0 : cX2_isInOrder.data.toList.drop 0 = dktX2_isInOrder_0 := by decide +kernel
theorem dksX2_isInOrder_1 : cX2_isInOrder.data.toList.drop 24 = dktX2_isInOrder_1 := dk_seg dksX2_isInOrder_0 24 rfl rfl
theorem dksX2_isInOrder_2 : cX2_isInOrder.data.toList.drop 46 = dktX2_isInOrder_2 := dk_seg dksX2_isInOrder_1 22 rfl rfl
theorem dksX2_isInOrder_3 : cX2_isInOrder.data.toList.drop 70 = dktX2_isInOrder_3 := dk_seg dksX2_isInOrder_2 24 rfl rfl
theorem dksX2_isInOrder_4 : cX2_isInOrder.data.toList.drop 92 = dktX2_isInOrder_4 := dk_seg dksX2_isInOrder_3 22 rfl rfl
theorem dksX2_isInOrder_5 : cX2_isInOrder.data.toList.drop 116 = dktX2_isInOrder_5 := dk_seg dksX2_isInOrder_4 24 rfl rfl
theorem dksX2_isInOrder_6 : cX2_isInOrder.data.toList.drop 138 = dktX2_isInOrder_6 := dk_seg dksX2_isInOrder_5 22 rfl rfl
theorem dksX2_isInOrder_7 : cX2_isInOrder.data.toList.drop 158 = dktX2_isInOrder_7 := dk_seg dksX2_isInOrder_6 20 rfl rfl
theorem dksX2_isInOrder_8 : cX2_isInOrder.data.toList.drop 182 = dktX2_isInOrder_8 := dk_seg dksX2_isInOrder_7 24 rfl rfl
theorem dksX2_isInOrder_9 : cX2_isInOrder.data.toList.drop 206 = dktX2_isInOrder_9 := dk_seg dksX2_isInOrder_8 24 rfl rfl
theorem dX2_isInOrder_0 : decode cX2_isInOrder 0 = .ok (.aload_n 0, 1) := dk_42 (dk_at dksX2_isInOrder_0 0 rfl rfl)
theorem dX2_isInOrder_1 : decode cX2_isInOrder 1 = .ok (.invokevirtual 279, 3) := dk_182 1 23 (dk_at dksX2_isInOrder_0 1 rfl rfl)
theorem dX2_isInOrder_4 : decode cX2_isInOrder 4 = .ok (.sipush 1000, 3) := dk_17 3 232 (dk_at dksX2_isInOrder_0 4 rfl rfl)
theorem dX2_isInOrder_7 : decode cX2_isInOrder 7 = .ok (.if_icmp .ge 7, 3) := dk_162 0 7 (dk_at dksX2_isInOrder_0 7 rfl rfl)
theorem dX2_isInOrder_10 : decode cX2_isInOrder 10 = .ok (.iconst 1, 1) := dk_4 (dk_at dksX2_isInOrder_0 10 rfl rfl)
theorem dX2_isInOrder_11 : decode cX2_isInOrder 11 = .ok (.goto 4, 3) := dk_167 0 4 (dk_at dksX2_isInOrder_0 11 rfl rfl)
theorem dX2_isInOrder_14 : decode cX2_isInOrder 14 = .ok (.iconst 0, 1) := dk_3 (dk_at dksX2_isInOrder_0 14 rfl rfl)
theorem dX2_isInOrder_15 : decode cX2_isInOrder 15 = .ok (.istore_n 1, 1) := dk_60 (dk_at dksX2_isInOrder_0 15 rfl rfl)
theorem dX2_isInOrder_16 : decode cX2_isInOrder 16 = .ok (.aload_n 0, 1) := dk_42 (dk_at dksX2_isInOrder_0 16 rfl rfl)
theorem dX2_isInOrder_17 : decode cX2_isInOrder 17 = .ok (.getfield 27, 3) := dk_180 0 27 (dk_at dksX2_isInOrder_0 17 rfl rfl)
theorem dX2_isInOrder_20 : decode cX2_isInOrder 20 = .ok (.invokevirtual 31, 3) := dk_182 0 31 (dk_at dksX2_isInOrder_0 20 rfl rfl)
theorem dX2_isInOrder_23 : decode cX2_isInOrder 23 = .ok (.astore_n 2, 1) := dk_77 (dk_at dksX2_isInOrder_0 23 rfl rfl)
theorem dX2_isInOrder_24 : decode cX2_isInOrder 24 = .ok (.aload_n 2, 1) := dk_44 (dk_at dksX2_isInOrder_1 0 rfl rfl)
theorem dX2_isInOrder_25 : decode cX2_isInOrder 25 = .ok (.invokeinterface 35 1, 5) := by decide +kernel
theorem dX2_isInOrder_30 : decode cX2_isInOrder 30 = .ok (.ifCond .eq 182, 3) := dk_153 0 182 (dk_at dksX2_isInOrder_1 6 rfl rfl)
theorem dX2_isInOrder_33 : decode cX2_isInOrder 33 = .ok (.aload_n 2, 1) := dk_44 (dk_at dksX2_isInOrder_1 9 rfl rfl)
theorem dX2_isInOrder_34 : decode cX2_isInOrder 34 = .ok (.invokeinterface 41 1, 5) := by decide +kernel
theorem dX2_isInOrder_39 : decode cX2_isInOrder 39 = .ok (.checkcast 51, 3) := dk_192 0 51 (dk_at dksX2_isInOrder_1 15 rfl rfl)
theorem dX2_isInOrder_42 : decode cX2_isInOrder 42 = .ok (.astore_n 3, 1) := dk_78 (dk_at dksX2_isInOrder_1 18 rfl rfl)
theorem dX2_isInOrder_43 : decode cX2_isInOrder 43 = .ok (.iload_n 1, 1) := dk_27 (dk_at dksX2_isInOrder_1 19 rfl rfl)
theorem dX2_isInOrder_44 : decode cX2_isInOrder 44 = .ok (.aload_n 0, 1) := dk_42 (dk_at dksX2_isInOrder_1 20 rfl rfl)
theorem dX2_isInOrder_45 : decode cX2_isInOrder 45 = .ok (.aload_n 3, 1) := dk_45 (dk_at dksX2_isInOrder_1 21 rfl rfl)
theorem dX2_isInOrder_46 : decode cX2_isInOrder 46 = .ok (.getfield 282, 3) := dk_180 1 26 (dk_at dksX2_isInOrder_2 0 rfl rfl)
theorem dX2_isInOrder_49 : decode cX2_isInOrder 49 = .ok (.aload_n 3, 1) := dk_45 (dk_at dksX2_isInOrder_2 3 rfl rfl)
theorem dX2_isInOrder_50 : decode cX2_isInOrder 50 = .ok (.getfield 283, 3) := dk_180 1 27 (dk_at dksX2_isInOrder_2 4 rfl rfl)
theorem dX2_isInOrder_53 : decode cX2_isInOrder 53 = .ok (.aload_n 3, 1) := dk_45 (dk_at dksX2_isInOrder_2 7 rfl rfl)
theorem dX2_isInOrder_54 : decode cX2_isInOrder 54 = .ok (.getfield 284, 3) := dk_180 1 28 (dk_at dksX2_isInOrder_2 8 rfl rfl)
theorem dX2_isInOrder_57 : decode cX2_isInOrder 57 = .ok (.invokevirtual 172, 3) := dk_182 0 172 (dk_at dksX2_isInOrder_2 11 rfl rfl)
theorem dX2_isInOrder_60 : decode cX2_isInOrder 60 = .ok (.aload_n 3, 1) := dk_45 (dk_at dksX2_isInOrder_2 14 rfl rfl)
theorem dX2_isInOrder_61 : decode cX2_isInOrder 61 = .ok (.if_acmp .ne 7, 3) := dk_166 0 7 (dk_at dksX2_isInOrder_2 15 rfl rfl)
theorem dX2_isInOrder_64 : decode cX2_isInOrder 64 = .ok (.iconst 1, 1) := dk_4 (dk_at dksX2_isInOrder_2 18 rfl rfl)
theorem dX2_isInOrder_65 : decode cX2_isInOrder 65 = .ok (.goto 4, 3) := dk_167 0 4 (dk_at dksX2_isInOrder_2 19 rfl rfl)
theorem dX2_isInOrder_68 : decode cX2_isInOrder 68 = .ok (.iconst 0, 1) := dk_3 (dk_at dksX2_isInOrder_2 22 rfl rfl)
theorem dX2_isInOrder_69 : decode cX2_isInOrder 69 = .ok (.iand, 1) := dk_126 (dk_at dksX2_isInOrder_2 23 rfl rfl)
theorem dX2_isInOrder_70 : decode cX2_isInOrder 70 = .ok (.istore_n 1, 1) := dk_60 (dk_at dksX2_isInOrder_3 0 rfl rfl)
theorem dX2_isInOrder_71 : decode cX2_isInOrder 71 = .ok (.aload_n 3, 1) := dk_45 (dk_at dksX2_isInOrder_3 1 rfl rfl)
theorem dX2_isInOrder_72 : decode cX2_isInOrder 72 = .ok (.getfield 186, 3) := dk_180 0 186 (dk_at dksX2_isInOrder_3 2 rfl rfl)
theorem dX2_isInOrder_75 : decode cX2_isInOrder 75 = .ok (.invokevirtual 31, 3) := dk_182 0 31 (dk_at dksX2_isInOrder_3 5 rfl rfl)
theorem dX2_isInOrder_78 : decode cX2_isInOrder 78 = .ok (.astore 4, 2) := dk_58 4 (dk_at dksX2_isInOrder_3 8 rfl rfl)
theorem dX2_isInOrder_80 : decode cX2_isInOrder 80 = .ok (.aload 4, 2) := dk_25 4 (dk_at dksX2_isInOrder_3 10 rfl rfl)
theorem dX2_isInOrder_82 : decode cX2_isInOrder 82 = .ok (.invokeinterface 35 1, 5) := by decide +kernel
theorem dX2_isInOrder_87 : decode cX2_isInOrder 87 = .ok (.ifCond .eq 50, 3) := dk_153 0 50 (dk_at dksX2_isInOrder_3 17 rfl rfl)
theorem dX2_isInOrder_90 : decode cX2_isInOrder 90 = .ok (.aload 4, 2) := dk_25 4 (dk_at dksX2_isInOrder_3 20 rfl rfl)
theorem dX2_isInOrder_92 : decode cX2_isInOrder 92 = .ok (.invokeinterface 41 1, 5) := by decide +kernel
theorem dX2_isInOrder_97 : decode cX2_isInOrder 97 = .ok (.checkcast 113, 3) := dk_192 0 113 (dk_at dksX2_isInOrder_4 5 rfl rfl)
theorem dX2_isInOrder_100 : decode cX2_isInOrder 100 = .ok (.astore 5, 2) := dk_58 5 (dk_at dksX2_isInOrder_4 8 rfl rfl)
theorem dX2_isInOrder_102 : decode cX2_isInOrder 102 = .ok (.iload_n 1, 1) := dk_27 (dk_at dksX2_isInOrder_4 10 rfl rfl)
theorem dX2_isInOrder_103 : decode cX2_isInOrder 103 = .ok (.aload_n 0, 1) := dk_42 (dk_at dksX2_isInOrder_4 11 rfl rfl)
theorem dX2_isInOrder_104 : decode cX2_isInOrder 104 = .ok (.aload 5, 2) := dk_25 5 (dk_at dksX2_isInOrder_4 12 rfl rfl)
theorem dX2_isInOrder_106 : decode cX2_isInOrder 106 = .ok (.getfield 146, 3) := dk_180 0 146 (dk_at dksX2_isInOrder_4 14 rfl rfl)
theorem dX2_isInOrder_109 : decode cX2_isInOrder 109 = .ok (.invokevirtual 285, 3) := dk_182 1 29 (dk_at dksX2_isInOrder_4 17 rfl rfl)
theorem dX2_isInOrder_112 : decode cX2_isInOrder 112 = .ok (.ifCond .eq 19, 3) := dk_153 0 19 (dk_at dksX2_isInOrder_4 20 rfl rfl)
theorem dX2_isInOrder_115 : decode cX2_isInOrder 115 = .ok (.aload_n 0, 1) := dk_42 (dk_at dksX2_isInOrder_4 23 rfl rfl)
theorem dX2_isInOrder_116 : decode cX2_isInOrder 116 = .ok (.aload 5, 2) := dk_25 5 (dk_at dksX2_isInOrder_5 0 rfl rfl)
theorem dX2_isInOrder_118 : decode cX2_isInOrder 118 = .ok (.getfield 148, 3) := dk_180 0 148 (dk_at dksX2_isInOrder_5 2 rfl rfl)
theorem dX2_isInOrder_121 : decode cX2_isInOrder 121 = .ok (.invokevirtual 285, 3) := dk_182 1 29 (dk_at dksX2_isInOrder_5 5 rfl rfl)
theorem dX2_isInOrder_124 : decode cX2_isInOrder 124 = .ok (.ifCond .eq 7, 3) := dk_153 0 7 (dk_at dksX2_isInOrder_5 8 rfl rfl)
theorem dX2_isInOrder_127 : decode cX2_isInOrder 127 = .ok (.iconst 1, 1) := dk_4 (dk_at dksX2_isInOrder_5 11 rfl rfl)
theorem dX2_isInOrder_128 : decode cX2_isInOrder 128 = .ok (.goto 4, 3) := dk_167 0 4 (dk_at dksX2_isInOrder_5 12 rfl rfl)
theorem dX2_isInOrder_131 : decode cX2_isInOrder 131 = .ok (.iconst 0, 1) := dk_3 (dk_at dksX2_isInOrder_5 15 rfl rfl)
theorem dX2_isInOrder_132 : decode cX2_isInOrder 132 = .ok (.iand, 1) := dk_126 (dk_at dksX2_isInOrder_5 16 rfl rfl)
theorem dX2_isInOrder_133 : decode cX2_isInOrder 133 = .ok (.istore_n 1, 1) := dk_60 (dk_at dksX2_isInOrder_5 17 rfl rfl)
theorem dX2_isInOrder_134 : decode cX2_isInOrder 134 = .ok (.goto (-54), 3) := dk_167 255 202 (dk_at dksX2_isInOrder_5 18 rfl rfl)
theorem dX2_isInOrder_137 : decode cX2_isInOrder 137 = .ok (.aload_n 3, 1) := dk_45 (dk_at dksX2_isInOrder_5 21 rfl rfl)
theorem dX2_isInOrder_138 : decode cX2_isInOrder 138 = .ok (.getfield 183, 3) := dk_180 0 183 (dk_at dksX2_isInOrder_6 0 rfl rfl)
theorem dX2_isInOrder_141 : decode cX2_isInOrder 141 = .ok (.invokevirtual 31, 3) := dk_182 0 31 (dk_at dksX2_isInOrder_6 3 rfl rfl)
theorem dX2_isInOrder_144 : decode cX2_isInOrder 144 = .ok (.astore 4, 2) := dk_58 4 (dk_at dksX2_isInOrder_6 6 rfl rfl)
theorem dX2_isInOrder_146 : decode cX2_isInOrder 146 = .ok (.aload 4, 2) := dk_25 4 (dk_at dksX2_isInOrder_6 8 rfl rfl)
theorem dX2_isInOrder_148 : decode cX2_isInOrder 148 = .ok (.invokeinterface 35 1, 5) := by decide +kernel
theorem dX2_isInOrder_153 : decode cX2_isInOrder 153 = .ok (.ifCond .eq 56, 3) := dk_153 0 56 (dk_at dksX2_isInOrder_6 15 rfl rfl)
theorem dX2_isInOrder_156 : decode cX2_isInOrder 156 = .ok (.aload 4, 2) := dk_25 4 (dk_at dksX2_isInOrder_6 18 rfl rfl)
theorem dX2_isInOrder_158 : decode cX2_isInOrder 158 = .ok (.invokeinterface 41 1, 5) := by decide +kernel
theorem dX2_isInOrder_163 : decode cX2_isInOrder 163 = .ok (.checkcast 113, 3) := dk_192 0 113 (dk_at dksX2_isInOrder_7 5 rfl rfl)
theorem dX2_isInOrder_166 : decode cX2_isInOrder 166 = .ok (.astore 5, 2) := dk_58 5 (dk_at dksX2_isInOrder_7 8 rfl rfl)
theorem dX2_isInOrder_168 : decode cX2_isInOrder 168 = .ok (.iload_n 1, 1) := dk_27 (dk_at dksX2_isInOrder_7 10 rfl rfl)
theorem dX2_isInOrder_169 : decode cX2_isInOrder 169 = .ok (.aload 5, 2) := dk_25 5 (dk_at dksX2_isInOrder_7 11 rfl rfl)
theorem dX2_isInOrder_171 : decode cX2_isInOrder 171 = .ok (.getfield 146, 3) := dk_180 0 146 (dk_at dksX2_isInOrder_7 13 rfl rfl)
theorem dX2_isInOrder_174 : decode cX2_isInOrder 174 = .ok (.aload_n 3, 1) := dk_45 (dk_at dksX2_isInOrder_7 16 rfl rfl)
theorem dX2_isInOrder_175 : decode cX2_isInOrder 175 = .ok (.getfield 74, 3) := dk_180 0 74 (dk_at dksX2_isInOrder_7 17 rfl rfl)
theorem dX2_isInOrder_178 : decode cX2_isInOrder 178 = .ok (.if_icmp .ne 25, 3) := dk_160 0 25 (dk_at dksX2_isInOrder_7 20 rfl rfl)
theorem dX2_isInOrder_181 : decode cX2_isInOrder 181 = .ok (.aload_n 3, 1) := dk_45 (dk_at dksX2_isInOrder_7 23 rfl rfl)
theorem dX2_isInOrder_182 : decode cX2_isInOrder 182 = .ok (.getfield 183, 3) := dk_180 0 183 (dk_at dksX2_isInOrder_8 0 rfl rfl)
theorem dX2_isInOrder_185 : decode cX2_isInOrder 185 = .ok (.aload 5, 2) := dk_25 5 (dk_at dksX2_isInOrder_8 3 rfl rfl)
theorem dX2_isInOrder_187 : decode cX2_isInOrder 187 = .ok (.invokedynamic 289, 5) := by decide +kernel
theorem dX2_isInOrder_192 : decode cX2_isInOrder 192 = .ok (.invokestatic 271, 3) := dk_184 1 15 (dk_at dksX2_isInOrder_8 10 rfl rfl)
theorem dX2_isInOrder_195 : decode cX2_isInOrder 195 = .ok (.iconst 1, 1) := dk_4 (dk_at dksX2_isInOrder_8 13 rfl rfl)
theorem dX2_isInOrder_196 : decode cX2_isInOrder 196 = .ok (.if_icmp .ne 7, 3) := dk_160 0 7 (dk_at dksX2_isInOrder_8 14 rfl rfl)
theorem dX2_isInOrder_199 : decode cX2_isInOrder 199 = .ok (.iconst 1, 1) := dk_4 (dk_at dksX2_isInOrder_8 17 rfl rfl)
theorem dX2_isInOrder_200 : decode cX2_isInOrder 200 = .ok (.goto 4, 3) := dk_167 0 4 (dk_at dksX2_isInOrder_8 18 rfl rfl)
theorem dX2_isInOrder_203 : decode cX2_isInOrder 203 = .ok (.iconst 0, 1) := dk_3 (dk_at dksX2_isInOrder_8 21 rfl rfl)
theorem dX2_isInOrder_204 : decode cX2_isInOrder 204 = .ok (.iand, 1) := dk_126 (dk_at dksX2_isInOrder_8 22 rfl rfl)
theorem dX2_isInOrder_205 : decode cX2_isInOrder 205 = .ok (.istore_n 1, 1) := dk_60 (dk_at dksX2_isInOrder_8 23 rfl rfl)
theorem dX2_isInOrder_206 : decode cX2_isInOrder 206 = .ok (.goto (-60), 3) := dk_167 255 196 (dk_at dksX2_isInOrder_9 0 rfl rfl)
theorem dX2_isInOrder_209 : decode cX2_isInOrder 209 = .ok (.goto (-185), 3) := dk_167 255 71 (dk_at dksX2_isInOrder_9 3 rfl rfl)
theorem dX2_isInOrder_212 : decode cX2_isInOrder 212 = .ok (.iload_n 1, 1) := dk_27 (dk_at dksX2_isInOrder_9 6 rfl rfl)
theorem dX2_isInOrder_213 : decode cX2_isInOrder 213 = .ok (.ireturn, 1) := dk_172 (dk_at dksX2_isInOrder_9 7 rfl rfl)
abbrev cX2_greatestDepth : ByteArray := prog_2_method_22_code
def yX2_greatestDepth : MethodName := ⟨RX2, "greatestDepth", "()I"⟩
def dkwX2_greatestDepth_1 : List UInt8 := [54, 5, 27, 21, 5, 184, 0, 221, 60, 132, 4, 1, 167, 255, 234, 27, 172]
abbrev dktX2_greatestDepth_1 : List UInt8 := dkwX2_greatestDepth_1 ++ []
def dkwX2_greatestDepth_0 : List UInt8 := [3, 60, 42, 182, 0, 234, 77, 44, 190, 62, 3, 54, 4, 21, 4, 29, 162, 0, 22, 44, 21, 4, 46]
abbrev dktX2_greatestDepth_0 : List UInt8 := dkwX2_greatestDepth_0 ++ dktX2_greatestDepth_1
theorem dksX2_greatestDepth_0 : cX2_greatestDepth.data.toList.drop 0 = dktX2_greatestDepth_0 := by decide +kernel
theorem dksX2_greatestDepth_1 : cX2_greatestDepth.data.toList.drop 23 = dktX2_greatestDepth_1 := dk_seg dksX2_greatestDepth_0 23 rfl rfl
theorem dX2_greatestDepth_0 : decode cX2_greatestDepth 0 = .ok (.iconst 0, 1) := dk_3 (dk_at dksX2_greatestDepth_0 0 rfl rfl)
theorem dX2_greatestDepth_1 : decode cX2_greatestDepth 1 = .ok (.istore_n 1, 1) := dk_60 (dk_at dksX2_greatestDepth_0 1 rfl rfl)
theorem dX2_greatestDepth_2 : decode cX2_greatestDepth 2 = .ok (.aload_n 0, 1) := dk_42 (dk_at dksX2_greatestDepth_0 2 rfl rfl)
theorem dX2_greatestDepth_3 : decode cX2_greatestDepth 3 = .ok (.invokevirtual 234, 3) := dk_182 0 234 (dk_at dksX2_greatestDepth_0 3 rfl rfl)
theorem dX2_greatestDepth_6 : decode cX2_greatestDepth 6 = .ok (.astore_n 2, 1) := dk_77 (dk_at dksX2_greatestDepth_0 6 rfl rfl)
theorem dX2_greatestDepth_7 : decode cX2_greatestDepth 7 = .ok (.aload_n 2, 1) := dk_44 (dk_at dksX2_greatestDepth_0 7 rfl rfl)
theorem dX2_greatestDepth_8 : decode cX2_greatestDepth 8 = .ok (.arraylength, 1) := dk_190 (dk_at dksX2_greatestDepth_0 8 rfl rfl)
theorem dX2_greatestDepth_9 : decode cX2_greatestDepth 9 = .ok (.istore_n 3, 1) := dk_62 (dk_at dksX2_greatestDepth_0 9 rfl rfl)
theorem dX2_greatestDepth_10 : decode cX2_greatestDepth 10 = .ok (.iconst 0, 1) := dk_3 (dk_at dksX2_greatestDepth_0 10 rfl rfl)
theorem dX2_greatestDepth_11 : decode cX2_greatestDepth 11 = .ok (.istore 4, 2) := dk_54 4 (dk_at dksX2_greatestDepth_0 11 rfl rfl)
theorem dX2_greatestDepth_13 : decode cX2_greatestDepth 13 = .ok (.iload 4, 2) := dk_21 4 (dk_at dksX2_greatestDepth_0 13 rfl rfl)
theorem dX2_greatestDepth_15 : decode cX2_greatestDepth 15 = .ok (.iload_n 3, 1) := dk_29 (dk_at dksX2_greatestDepth_0 15 rfl rfl)
theorem dX2_greatestDepth_16 : decode cX2_greatestDepth 16 = .ok (.if_icmp .ge 22, 3) := dk_162 0 22 (dk_at dksX2_greatestDepth_0 16 rfl rfl)
theorem dX2_greatestDepth_19 : decode cX2_greatestDepth 19 = .ok (.aload_n 2, 1) := dk_44 (dk_at dksX2_greatestDepth_0 19 rfl rfl)
theorem dX2_greatestDepth_20 : decode cX2_greatestDepth 20 = .ok (.iload 4, 2) := dk_21 4 (dk_at dksX2_greatestDepth_0 20 rfl rfl)
theorem dX2_greatestDepth_22 : decode cX2_greatestDepth 22 = .ok (.iaload, 1) := dk_46 (dk_at dksX2_greatestDepth_0 22 rfl rfl)
theorem dX2_greatestDepth_23 : decode cX2_greatestDepth 23 = .ok (.istore 5, 2) := dk_54 5 (dk_at dksX2_greatestDepth_1 0 rfl rfl)
theorem dX2_greatestDepth_25 : decode cX2_greatestDepth 25 = .ok (.iload_n 1, 1) := dk_27 (dk_at dksX2_greatestDepth_1 2 rfl rfl)
theorem dX2_greatestDepth_26 : decode cX2_greatestDepth 26 = .ok (.iload 5, 2) := dk_21 5 (dk_at dksX2_greatestDepth_1 3 rfl rfl)
theorem dX2_greatestDepth_28 : decode cX2_greatestDepth 28 = .ok (.invokestatic 221, 3) := dk_184 0 221 (dk_at dksX2_greatestDepth_1 5 rfl rfl)
theorem dX2_greatestDepth_31 : decode cX2_greatestDepth 31 = .ok (.istore_n 1, 1) := dk_60 (dk_at dksX2_greatestDepth_1 8 rfl rfl)
theorem dX2_greatestDepth_32 : decode cX2_greatestDepth 32 = .ok (.iinc 4 1, 3) := dk_132 4 1 (dk_at dksX2_greatestDepth_1 9 rfl rfl)
theorem dX2_greatestDepth_35 : decode cX2_greatestDepth 35 = .ok (.goto (-22), 3) := dk_167 255 234 (dk_at dksX2_greatestDepth_1 12 rfl rfl)
theorem dX2_greatestDepth_38 : decode cX2_greatestDepth 38 = .ok (.iload_n 1, 1) := dk_27 (dk_at dksX2_greatestDepth_1 15 rfl rfl)
theorem dX2_greatestDepth_39 : decode cX2_greatestDepth 39 = .ok (.ireturn, 1) := dk_172 (dk_at dksX2_greatestDepth_1 16 rfl rfl)
abbrev cX2_depths : ByteArray := prog_2_method_19_code
def yX2_depths : MethodName := ⟨RX2, "depths", "()[I"⟩
def dkwX2_depths_7 : List UInt8 := [167, 255, 149, 167, 255, 138, 43, 176]
abbrev dktX2_depths_7 : List UInt8 := dkwX2_depths_7 ++ []
def dkwX2_depths_6 : List UInt8 := [4, 167, 0, 4, 3, 128, 61, 43, 29, 43, 29, 46, 21, 6, 184, 0, 227, 79, 167, 255, 180, 132, 3, 1]
abbrev dktX2_depths_6 : List UInt8 := dkwX2_depths_6 ++ dktX2_depths_7
def dkwX2_depths_5 : List UInt8 := [25, 5, 180, 0, 148, 43, 182, 0, 218, 184, 0, 221, 96, 54, 6, 28, 21, 6, 43, 29, 46, 162, 0, 7]
abbrev dktX2_depths_5 : List UInt8 := dkwX2_depths_5 ++ dktX2_depths_6
def dkwX2_depths_4 : List UInt8 := [25, 4, 185, 0, 41, 1, 0, 192, 0, 113, 58, 5, 4, 42, 25, 5, 180, 0, 146, 43, 182, 0, 218, 42]
abbrev dktX2_depths_4 : List UInt8 := dkwX2_depths_4 ++ dktX2_depths_5
def dkwX2_depths_3 : List UInt8 := [182, 0, 96, 192, 0, 51, 180, 0, 186, 182, 0, 31, 58, 4, 25, 4, 185, 0, 35, 1, 0, 153, 0, 72]
abbrev dktX2_depths_3 : List UInt8 := dkwX2_depths_3 ++ dktX2_depths_4
def dkwX2_depths_2 : List UInt8 := [167, 255, 220, 4, 61, 28, 153, 0, 120, 3, 61, 3, 62, 29, 43, 190, 162, 0, 107, 42, 180, 0, 27, 29]
abbrev dktX2_depths_2 : List UInt8 := dkwX2_depths_2 ++ dktX2_depths_3
def dkwX2_depths_1 : List UInt8 := [28, 182, 0, 96, 192, 0, 51, 180, 0, 214, 153, 0, 7, 3, 167, 0, 6, 17, 3, 232, 79, 132, 2, 1]
abbrev dktX2_depths_1 : List UInt8 := dkwX2_depths_1 ++ dktX2_depths_2
def dkwX2_depths_0 : List UInt8 := [42, 180, 0, 27, 182, 0, 85, 188, 10, 76, 3, 61, 28, 43, 190, 162, 0, 36, 43, 28, 42, 180, 0, 27]
abbrev dktX2_depths_0 : List UInt8 := dkwX2_depths_0 ++ dktX2_depths_1
theorem dksX2_depths_0 : cX2_depths.data.toList.drop 0 = dktX2_depths_0 := by decide +kernel
theorem dksX2_depths_1 : cX2_depths.data.toList.drop 24 = dktX2_depths_1 := dk_seg dksX2_depths_0 24 rfl rfl
theorem dksX2_depths_2 : cX2_depths.data.toList.drop 48 = dktX2_depths_2 := dk_seg dksX2_depths_1 24 rfl rfl
theorem dksX2_depths_3 : cX2_depths.data.toList.drop 72 = dktX2_depths_3 := dk_seg dksX2_depths_2 24 rfl rfl
theorem dksX2_depths_4 : cX2_depths.data.toList.drop 96 = dktX2_depths_4 := dk_seg dksX2_depths_3 24 rfl rfl
theorem dksX2_depths_5 : cX2_depths.data.toList.drop 120 = dktX2_depths_5 := dk_seg dksX2_depths_4 24 rfl rfl
theorem dksX2_depths_6 : cX2_depths.data.toList.drop 144 = dktX2_depths_6 := dk_seg dksX2_depths_5 24 rfl rfl
theorem dksX2_depths_7 : cX2_depths.data.toList.drop 168 = dktX2_depths_7 := dk_seg dksX2_depths_6 24 rfl rfl
theorem dX2_depths_0 : decode cX2_depths 0 = .ok (.aload_n 0, 1) := dk_42 (dk_at dksX2_depths_0 0 rfl rfl)
theorem dX2_depths_1 : decode cX2_depths 1 = .ok (.getfield 27, 3) := dk_180 0 27 (dk_at dksX2_depths_0 1 rfl rfl)
theorem dX2_depths_4 : decode cX2_depths 4 = .ok (.invokevirtual 85, 3) := dk_182 0 85 (dk_at dksX2_depths_0 4 rfl rfl)
theorem dX2_depths_7 : decode cX2_depths 7 = .ok (.newarray .int, 2) := dk_188_10 (dk_at dksX2_depths_0 7 rfl rfl)
theorem dX2_depths_9 : decode cX2_depths 9 = .ok (.astore_n 1, 1) := dk_76 (dk_at dksX2_depths_0 9 rfl rfl)
theorem dX2_depths_10 : decode cX2_depths 10 = .ok (.iconst 0, 1) := dk_3 (dk_at dksX2_depths_0 10 rfl rfl)
theorem dX2_depths_11 : decode cX2_depths 11 = .ok (.istore_n 2, 1) := dk_61 (dk_at dksX2_depths_0 11 rfl rfl)
theorem dX2_depths_12 : decode cX2_depths 12 = .ok (.iload_n 2, 1) := dk_28 (dk_at dksX2_depths_0 12 rfl rfl)
theorem dX2_depths_13 : decode cX2_depths 13 = .ok (.aload_n 1, 1) := dk_43 (dk_at dksX2_depths_0 13 rfl rfl)
theorem dX2_depths_14 : decode cX2_depths 14 = .ok (.arraylength, 1) := dk_190 (dk_at dksX2_depths_0 14 rfl rfl)
theorem dX2_depths_15 : decode cX2_depths 15 = .ok (.if_icmp .ge 36, 3) := dk_162 0 36 (dk_at dksX2_depths_0 15 rfl rfl)
theorem dX2_depths_18 : decode cX2_depths 18 = .ok (.aload_n 1, 1) := dk_43 (dk_at dksX2_depths_0 18 rfl rfl)
theorem dX2_depths_19 : decode cX2_depths 19 = .ok (.iload_n 2, 1) := dk_28 (dk_at dksX2_depths_0 19 rfl rfl)
theorem dX2_depths_20 : decode cX2_depths 20 = .ok (.aload_n 0, 1) := dk_42 (dk_at dksX2_depths_0 20 rfl rfl)
theorem dX2_depths_21 : decode cX2_depths 21 = .ok (.getfield 27, 3) := dk_180 0 27 (dk_at dksX2_depths_0 21 rfl rfl)
theorem dX2_depths_24 : decode cX2_depths 24 = .ok (.iload_n 2, 1) := dk_28 (dk_at dksX2_depths_1 0 rfl rfl)
theorem dX2_depths_25 : decode cX2_depths 25 = .ok (.invokevirtual 96, 3) := dk_182 0 96 (dk_at dksX2_depths_1 1 rfl rfl)
theorem dX2_depths_28 : decode cX2_depths 28 = .ok (.checkcast 51, 3) := dk_192 0 51 (dk_at dksX2_depths_1 4 rfl rfl)
theorem dX2_depths_31 : decode cX2_depths 31 = .ok (.getfield 214, 3) := dk_180 0 214 (dk_at dksX2_depths_1 7 rfl rfl)
theorem dX2_depths_34 : decode cX2_depths 34 = .ok (.ifCond .eq 7, 3) := dk_153 0 7 (dk_at dksX2_depths_1 10 rfl rfl)
theorem dX2_depths_37 : decode cX2_depths 37 = .ok (.iconst 0, 1) := dk_3 (dk_at dksX2_depths_1 13 rfl rfl)
theorem dX2_depths_38 : decode cX2_depths 38 = .ok (.goto 6, 3) := dk_167 0 6 (dk_at dksX2_depths_1 14 rfl rfl)
theorem dX2_depths_41 : decode cX2_depths 41 = .ok (.sipush 1000, 3) := dk_17 3 232 (dk_at dksX2_depths_1 17 rfl rfl)
theorem dX2_depths_44 : decode cX2_depths 44 = .ok (.iastore, 1) := dk_79 (dk_at dksX2_depths_1 20 rfl rfl)
theorem dX2_depths_45 : decode cX2_depths 45 = .ok (.iinc 2 1, 3) := dk_132 2 1 (dk_at dksX2_depths_1 21 rfl rfl)
theorem dX2_depths_48 : decode cX2_depths 48 = .ok (.goto (-36), 3) := dk_167 255 220 (dk_at dksX2_depths_2 0 rfl rfl)
theorem dX2_depths_51 : decode cX2_depths 51 = .ok (.iconst 1, 1) := dk_4 (dk_at dksX2_depths_2 3 rfl rfl)
theorem dX2_depths_52 : decode cX2_depths 52 = .ok (.istore_n 2, 1) := dk_61 (dk_at dksX2_depths_2 4 rfl rfl)
theorem dX2_depths_53 : decode cX2_depths 53 = .ok (.iload_n 2, 1) := dk_28 (dk_at dksX2_depths_2 5 rfl rfl)
theorem dX2_depths_54 : decode cX2_depths 54 = .ok (.ifCond .eq 120, 3) := dk_153 0 120 (dk_at dksX2_depths_2 6 rfl rfl)
theorem dX2_depths_57 : decode cX2_depths 57 = .ok (.iconst 0, 1) := dk_3 (dk_at dksX2_depths_2 9 rfl rfl)
theorem dX2_depths_58 : decode cX2_depths 58 = .ok (.istore_n 2, 1) := dk_61 (dk_at dksX2_depths_2 10 rfl rfl)
theorem dX2_depths_59 : decode cX2_depths 59 = .ok (.iconst 0, 1) := dk_3 (dk_at dksX2_depths_2 11 rfl rfl)
theorem dX2_depths_60 : decode cX2_depths 60 = .ok (.istore_n 3, 1) := dk_62 (dk_at dksX2_depths_2 12 rfl rfl)
theorem dX2_depths_61 : decode cX2_depths 61 = .ok (.iload_n 3, 1) := dk_29 (dk_at dksX2_depths_2 13 rfl rfl)
theorem dX2_depths_62 : decode cX2_depths 62 = .ok (.aload_n 1, 1) := dk_43 (dk_at dksX2_depths_2 14 rfl rfl)
theorem dX2_depths_63 : decode cX2_depths 63 = .ok (.arraylength, 1) := dk_190 (dk_at dksX2_depths_2 15 rfl rfl)
theorem dX2_depths_64 : decode cX2_depths 64 = .ok (.if_icmp .ge 107, 3) := dk_162 0 107 (dk_at dksX2_depths_2 16 rfl rfl)
theorem dX2_depths_67 : decode cX2_depths 67 = .ok (.aload_n 0, 1) := dk_42 (dk_at dksX2_depths_2 19 rfl rfl)
theorem dX2_depths_68 : decode cX2_depths 68 = .ok (.getfield 27, 3) := dk_180 0 27 (dk_at dksX2_depths_2 20 rfl rfl)
theorem dX2_depths_71 : decode cX2_depths 71 = .ok (.iload_n 3, 1) := dk_29 (dk_at dksX2_depths_2 23 rfl rfl)
theorem dX2_depths_72 : decode cX2_depths 72 = .ok (.invokevirtual 96, 3) := dk_182 0 96 (dk_at dksX2_depths_3 0 rfl rfl)
theorem dX2_depths_75 : decode cX2_depths 75 = .ok (.checkcast 51, 3) := dk_192 0 51 (dk_at dksX2_depths_3 3 rfl rfl)
theorem dX2_depths_78 : decode cX2_depths 78 = .ok (.getfield 186, 3) := dk_180 0 186 (dk_at dksX2_depths_3 6 rfl rfl)
theorem dX2_depths_81 : decode cX2_depths 81 = .ok (.invokevirtual 31, 3) := dk_182 0 31 (dk_at dksX2_depths_3 9 rfl rfl)
theorem dX2_depths_84 : decode cX2_depths 84 = .ok (.astore 4, 2) := dk_58 4 (dk_at dksX2_depths_3 12 rfl rfl)
theorem dX2_depths_86 : decode cX2_depths 86 = .ok (.aload 4, 2) := dk_25 4 (dk_at dksX2_depths_3 14 rfl rfl)
theorem dX2_depths_88 : decode cX2_depths 88 = .ok (.invokeinterface 35 1, 5) := by decide +kernel
theorem dX2_depths_93 : decode cX2_depths 93 = .ok (.ifCond .eq 72, 3) := dk_153 0 72 (dk_at dksX2_depths_3 21 rfl rfl)
theorem dX2_depths_96 : decode cX2_depths 96 = .ok (.aload 4, 2) := dk_25 4 (dk_at dksX2_depths_4 0 rfl rfl)
theorem dX2_depths_98 : decode cX2_depths 98 = .ok (.invokeinterface 41 1, 5) := by decide +kernel
theorem dX2_depths_103 : decode cX2_depths 103 = .ok (.checkcast 113, 3) := dk_192 0 113 (dk_at dksX2_depths_4 7 rfl rfl)
theorem dX2_depths_106 : decode cX2_depths 106 = .ok (.astore 5, 2) := dk_58 5 (dk_at dksX2_depths_4 10 rfl rfl)
theorem dX2_depths_108 : decode cX2_depths 108 = .ok (.iconst 1, 1) := dk_4 (dk_at dksX2_depths_4 12 rfl rfl)
theorem dX2_depths_109 : decode cX2_depths 109 = .ok (.aload_n 0, 1) := dk_42 (dk_at dksX2_depths_4 13 rfl rfl)
theorem dX2_depths_110 : decode cX2_depths 110 = .ok (.aload 5, 2) := dk_25 5 (dk_at dksX2_depths_4 14 rfl rfl)
theorem dX2_depths_112 : decode cX2_depths 112 = .ok (.getfield 146, 3) := dk_180 0 146 (dk_at dksX2_depths_4 16 rfl rfl)
theorem dX2_depths_115 : decode cX2_depths 115 = .ok (.aload_n 1, 1) := dk_43 (dk_at dksX2_depths_4 19 rfl rfl)
theorem dX2_depths_116 : decode cX2_depths 116 = .ok (.invokevirtual 218, 3) := dk_182 0 218 (dk_at dksX2_depths_4 20 rfl rfl)
theorem dX2_depths_119 : decode cX2_depths 119 = .ok (.aload_n 0, 1) := dk_42 (dk_at dksX2_depths_4 23 rfl rfl)
theorem dX2_depths_120 : decode cX2_depths 120 = .ok (.aload 5, 2) := dk_25 5 (dk_at dksX2_depths_5 0 rfl rfl)
theorem dX2_depths_122 : decode cX2_depths 122 = .ok (.getfield 148, 3) := dk_180 0 148 (dk_at dksX2_depths_5 2 rfl rfl)
theorem dX2_depths_125 : decode cX2_depths 125 = .ok (.aload_n 1, 1) := dk_43 (dk_at dksX2_depths_5 5 rfl rfl)
theorem dX2_depths_126 : decode cX2_depths 126 = .ok (.invokevirtual 218, 3) := dk_182 0 218 (dk_at dksX2_depths_5 6 rfl rfl)
theorem dX2_depths_129 : decode cX2_depths 129 = .ok (.invokestatic 221, 3) := dk_184 0 221 (dk_at dksX2_depths_5 9 rfl rfl)
theorem dX2_depths_132 : decode cX2_depths 132 = .ok (.iadd, 1) := dk_96 (dk_at dksX2_depths_5 12 rfl rfl)
theorem dX2_depths_133 : decode cX2_depths 133 = .ok (.istore 6, 2) := dk_54 6 (dk_at dksX2_depths_5 13 rfl rfl)
theorem dX2_depths_135 : decode cX2_depths 135 = .ok (.iload_n 2, 1) := dk_28 (dk_at dksX2_depths_5 15 rfl rfl)
theorem dX2_depths_136 : decode cX2_depths 136 = .ok (.iload 6, 2) := dk_21 6 (dk_at dksX2_depths_5 16 rfl rfl)
theorem dX2_depths_138 : decode cX2_depths 138 = .ok (.aload_n 1, 1) := dk_43 (dk_at dksX2_depths_5 18 rfl rfl)
theorem dX2_depths_139 : decode cX2_depths 139 = .ok (.iload_n 3, 1) := dk_29 (dk_at dksX2_depths_5 19 rfl rfl)
theorem dX2_depths_140 : decode cX2_depths 140 = .ok (.iaload, 1) := dk_46 (dk_at dksX2_depths_5 20 rfl rfl)
theorem dX2_depths_141 : decode cX2_depths 141 = .ok (.if_icmp .ge 7, 3) := dk_162 0 7 (dk_at dksX2_depths_5 21 rfl rfl)
theorem dX2_depths_144 : decode cX2_depths 144 = .ok (.iconst 1, 1) := dk_4 (dk_at dksX2_depths_6 0 rfl rfl)
theorem dX2_depths_145 : decode cX2_depths 145 = .ok (.goto 4, 3) := dk_167 0 4 (dk_at dksX2_depths_6 1 rfl rfl)
theorem dX2_depths_148 : decode cX2_depths 148 = .ok (.iconst 0, 1) := dk_3 (dk_at dksX2_depths_6 4 rfl rfl)
theorem dX2_depths_149 : decode cX2_depths 149 = .ok (.ior, 1) := dk_128 (dk_at dksX2_depths_6 5 rfl rfl)
theorem dX2_depths_150 : decode cX2_depths 150 = .ok (.istore_n 2, 1) := dk_61 (dk_at dksX2_depths_6 6 rfl rfl)
theorem dX2_depths_151 : decode cX2_depths 151 = .ok (.aload_n 1, 1) := dk_43 (dk_at dksX2_depths_6 7 rfl rfl)
theorem dX2_depths_152 : decode cX2_depths 152 = .ok (.iload_n 3, 1) := dk_29 (dk_at dksX2_depths_6 8 rfl rfl)
theorem dX2_depths_153 : decode cX2_depths 153 = .ok (.aload_n 1, 1) := dk_43 (dk_at dksX2_depths_6 9 rfl rfl)
theorem dX2_depths_154 : decode cX2_depths 154 = .ok (.iload_n 3, 1) := dk_29 (dk_at dksX2_depths_6 10 rfl rfl)
theorem dX2_depths_155 : decode cX2_depths 155 = .ok (.iaload, 1) := dk_46 (dk_at dksX2_depths_6 11 rfl rfl)
theorem dX2_depths_156 : decode cX2_depths 156 = .ok (.iload 6, 2) := dk_21 6 (dk_at dksX2_depths_6 12 rfl rfl)
theorem dX2_depths_158 : decode cX2_depths 158 = .ok (.invokestatic 227, 3) := dk_184 0 227 (dk_at dksX2_depths_6 14 rfl rfl)
theorem dX2_depths_161 : decode cX2_depths 161 = .ok (.iastore, 1) := dk_79 (dk_at dksX2_depths_6 17 rfl rfl)
theorem dX2_depths_162 : decode cX2_depths 162 = .ok (.goto (-76), 3) := dk_167 255 180 (dk_at dksX2_depths_6 18 rfl rfl)
theorem dX2_depths_165 : decode cX2_depths 165 = .ok (.iinc 3 1, 3) := dk_132 3 1 (dk_at dksX2_depths_6 21 rfl rfl)
theorem dX2_depths_168 : decode cX2_depths 168 = .ok (.goto (-107), 3) := dk_167 255 149 (dk_at dksX2_depths_7 0 rfl rfl)
theorem dX2_depths_171 : decode cX2_depths 171 = .ok (.goto (-118), 3) := dk_167 255 138 (dk_at dksX2_depths_7 3 rfl rfl)
theorem dX2_depths_174 : decode cX2_depths 174 = .ok (.aload_n 1, 1) := dk_43 (dk_at dksX2_depths_7 6 rfl rfl)
theorem dX2_depths_175 : decode cX2_depths 175 = .ok (.areturn, 1) := dk_176 (dk_at dksX2_depths_7 7 rfl rfl)
abbrev cX2_depth : ByteArray := prog_2_method_20_code
def yX2_depth : MethodName := ⟨RX2, "depth", "(I[I)I"⟩
def dkwX2_depth_0 : List UInt8 := [27, 2, 160, 0, 7, 3, 167, 0, 17, 44, 42, 180, 0, 27, 42, 27, 182, 0, 77, 182, 0, 230, 46, 172]
abbrev dktX2_depth_0 : List UInt8 := dkwX2_depth_0 ++ []
theorem dksX2_depth_0 : cX2_depth.data.toList.drop 0 = dktX2_depth_0 := by decide +kernel
theorem dX2_depth_0 : decode cX2_depth 0 = .ok (.iload_n 1, 1) := dk_27 (dk_at dksX2_depth_0 0 rfl rfl)
theorem dX2_depth_1 : decode cX2_depth 1 = .ok (.iconst (-1), 1) := dk_2 (dk_at dksX2_depth_0 1 rfl rfl)
theorem dX2_depth_2 : decode cX2_depth 2 = .ok (.if_icmp .ne 7, 3) := dk_160 0 7 (dk_at dksX2_depth_0 2 rfl rfl)
theorem dX2_depth_5 : decode cX2_depth 5 = .ok (.iconst 0, 1) := dk_3 (dk_at dksX2_depth_0 5 rfl rfl)
theorem dX2_depth_6 : decode cX2_depth 6 = .ok (.goto 17, 3) := dk_167 0 17 (dk_at dksX2_depth_0 6 rfl rfl)
theorem dX2_depth_9 : decode cX2_depth 9 = .ok (.aload_n 2, 1) := dk_44 (dk_at dksX2_depth_0 9 rfl rfl)
theorem dX2_depth_10 : decode cX2_depth 10 = .ok (.aload_n 0, 1) := dk_42 (dk_at dksX2_depth_0 10 rfl rfl)
theorem dX2_depth_11 : decode cX2_depth 11 = .ok (.getfield 27, 3) := dk_180 0 27 (dk_at dksX2_depth_0 11 rfl rfl)
theorem dX2_depth_14 : decode cX2_depth 14 = .ok (.aload_n 0, 1) := dk_42 (dk_at dksX2_depth_0 14 rfl rfl)
theorem dX2_depth_15 : decode cX2_depth 15 = .ok (.iload_n 1, 1) := dk_27 (dk_at dksX2_depth_0 15 rfl rfl)
theorem dX2_depth_16 : decode cX2_depth 16 = .ok (.invokevirtual 77, 3) := dk_182 0 77 (dk_at dksX2_depth_0 16 rfl rfl)
theorem dX2_depth_19 : decode cX2_depth 19 = .ok (.invokevirtual 230, 3) := dk_182 0 230 (dk_at dksX2_depth_0 19 rfl rfl)
theorem dX2_depth_22 : decode cX2_depth 22 = .ok (.iaload, 1) := dk_46 (dk_at dksX2_depth_0 22 rfl rfl)
theorem dX2_depth_23 : decode cX2_depth 23 = .ok (.ireturn, 1) := dk_172 (dk_at dksX2_depth_0 23 rfl rfl)
abbrev cX2_find : ByteArray := prog_2_method_4_code
def yX2_find : MethodName := ⟨RX2, "find", "(I)LMatchmakerRules$Fact;"⟩
def dkwX2_find_1 : List UInt8 := [192, 0, 51, 78, 45, 180, 0, 74, 27, 160, 0, 5, 45, 176, 167, 255, 227, 1, 176]
abbrev dktX2_find_1 : List UInt8 := dkwX2_find_1 ++ []
def dkwX2_find_0 : List UInt8 := [42, 180, 0, 27, 182, 0, 31, 77, 44, 185, 0, 35, 1, 0, 153, 0, 26, 44, 185, 0, 41, 1, 0]
abbrev dktX2_find_0 : List UInt8 := dkwX2_find_0 ++ dktX2_find_1
theorem dksX2_find_0 : cX2_find.data.toList.drop 0 = dktX2_find_0 := by decide +kernel
theorem dksX2_find_1 : cX2_find.data.toList.drop 23 = dktX2_find_1 := dk_seg dksX2_find_0 23 rfl rfl
theorem dX2_find_0 : decode cX2_find 0 = .ok (.aload_n 0, 1) := dk_42 (dk_at dksX2_find_0 0 rfl rfl)
theorem dX2_find_1 : decode cX2_find 1 = .ok (.getfield 27, 3) := dk_180 0 27 (dk_at dksX2_find_0 1 rfl rfl)
theorem dX2_find_4 : decode cX2_find 4 = .ok (.invokevirtual 31, 3) := dk_182 0 31 (dk_at dksX2_find_0 4 rfl rfl)
theorem dX2_find_7 : decode cX2_find 7 = .ok (.astore_n 2, 1) := dk_77 (dk_at dksX2_find_0 7 rfl rfl)
theorem dX2_find_8 : decode cX2_find 8 = .ok (.aload_n 2, 1) := dk_44 (dk_at dksX2_find_0 8 rfl rfl)
theorem dX2_find_9 : decode cX2_find 9 = .ok (.invokeinterface 35 1, 5) := by decide +kernel
theorem dX2_find_14 : decode cX2_find 14 = .ok (.ifCond .eq 26, 3) := dk_153 0 26 (dk_at dksX2_find_0 14 rfl rfl)
theorem dX2_find_17 : decode cX2_find 17 = .ok (.aload_n 2, 1) := dk_44 (dk_at dksX2_find_0 17 rfl rfl)
theorem dX2_find_18 : decode cX2_find 18 = .ok (.invokeinterface 41 1, 5) := by decide +kernel
theorem dX2_find_23 : decode cX2_find 23 = .ok (.checkcast 51, 3) := dk_192 0 51 (dk_at dksX2_find_1 0 rfl rfl)
theorem dX2_find_26 : decode cX2_find 26 = .ok (.astore_n 3, 1) := dk_78 (dk_at dksX2_find_1 3 rfl rfl)
theorem dX2_find_27 : decode cX2_find 27 = .ok (.aload_n 3, 1) := dk_45 (dk_at dksX2_find_1 4 rfl rfl)
theorem dX2_find_28 : decode cX2_find 28 = .ok (.getfield 74, 3) := dk_180 0 74 (dk_at dksX2_find_1 5 rfl rfl)
theorem dX2_find_31 : decode cX2_find 31 = .ok (.iload_n 1, 1) := dk_27 (dk_at dksX2_find_1 8 rfl rfl)
theorem dX2_find_32 : decode cX2_find 32 = .ok (.if_icmp .ne 5, 3) := dk_160 0 5 (dk_at dksX2_find_1 9 rfl rfl)
theorem dX2_find_35 : decode cX2_find 35 = .ok (.aload_n 3, 1) := dk_45 (dk_at dksX2_find_1 12 rfl rfl)
theorem dX2_find_36 : decode cX2_find 36 = .ok (.areturn, 1) := dk_176 (dk_at dksX2_find_1 13 rfl rfl)
theorem dX2_find_37 : decode cX2_find 37 = .ok (.goto (-29), 3) := dk_167 255 227 (dk_at dksX2_find_1 14 rfl rfl)
theorem dX2_find_40 : decode cX2_find 40 = .ok (.aconst_null, 1) := dk_1 (dk_at dksX2_find_1 17 rfl rfl)
theorem dX2_find_41 : decode cX2_find 41 = .ok (.areturn, 1) := dk_176 (dk_at dksX2_find_1 18 rfl rfl)
abbrev cX2_find_2 : ByteArray := prog_2_method_3_code
def yX2_find_2 : MethodName := ⟨RX2, "find", "(CII)LMatchmakerRules$Fact;"⟩
def dkwX2_find_2_2 : List UInt8 := [167, 255, 220, 1, 176]
abbrev dktX2_find_2_2 : List UInt8 := dkwX2_find_2_2 ++ []
def dkwX2_find_2_1 : List UInt8 := [185, 0, 41, 1, 0, 192, 0, 51, 58, 5, 25, 5, 27, 28, 29, 182, 0, 70, 153, 0, 6, 25, 5, 176]
abbrev dktX2_find_2_1 : List UInt8 := dkwX2_find_2_1 ++ dktX2_find_2_2
def dkwX2_find_2_0 : List UInt8 := [42, 180, 0, 27, 182, 0, 31, 58, 4, 25, 4, 185, 0, 35, 1, 0, 153, 0, 32, 25, 4]
abbrev dktX2_find_2_0 : List UInt8 := dkwX2_find_2_0 ++ dktX2_find_2_1
theorem dksX2_find_2_0 : cX2_find_2.data.toList.drop 0 = dktX2_find_2_0 := by decide +kernel
theorem dksX2_find_2_1 : cX2_find_2.data.toList.drop 21 = dktX2_find_2_1 := dk_seg dksX2_find_2_0 21 rfl rfl
theorem dksX2_find_2_2 : cX2_find_2.data.toList.drop 45 = dktX2_find_2_2 := dk_seg dksX2_find_2_1 24 rfl rfl
theorem dX2_find_2_0 : decode cX2_find_2 0 = .ok (.aload_n 0, 1) := dk_42 (dk_at dksX2_find_2_0 0 rfl rfl)
theorem dX2_find_2_1 : decode cX2_find_2 1 = .ok (.getfield 27, 3) := dk_180 0 27 (dk_at dksX2_find_2_0 1 rfl rfl)
theorem dX2_find_2_4 : decode cX2_find_2 4 = .ok (.invokevirtual 31, 3) := dk_182 0 31 (dk_at dksX2_find_2_0 4 rfl rfl)
theorem dX2_find_2_7 : decode cX2_find_2 7 = .ok (.astore 4, 2) := dk_58 4 (dk_at dksX2_find_2_0 7 rfl rfl)
theorem dX2_find_2_9 : decode cX2_find_2 9 = .ok (.aload 4, 2) := dk_25 4 (dk_at dksX2_find_2_0 9 rfl rfl)
theorem dX2_find_2_11 : decode cX2_find_2 11 = .ok (.invokeinterface 35 1, 5) := by decide +kernel
theorem dX2_find_2_16 : decode cX2_find_2 16 = .ok (.ifCond .eq 32, 3) := dk_153 0 32 (dk_at dksX2_find_2_0 16 rfl rfl)
theorem dX2_find_2_19 : decode cX2_find_2 19 = .ok (.aload 4, 2) := dk_25 4 (dk_at dksX2_find_2_0 19 rfl rfl)
theorem dX2_find_2_21 : decode cX2_find_2 21 = .ok (.invokeinterface 41 1, 5) := by decide +kernel
theorem dX2_find_2_26 : decode cX2_find_2 26 = .ok (.checkcast 51, 3) := dk_192 0 51 (dk_at dksX2_find_2_1 5 rfl rfl)
theorem dX2_find_2_29 : decode cX2_find_2 29 = .ok (.astore 5, 2) := dk_58 5 (dk_at dksX2_find_2_1 8 rfl rfl)
theorem dX2_find_2_31 : decode cX2_find_2 31 = .ok (.aload 5, 2) := dk_25 5 (dk_at dksX2_find_2_1 10 rfl rfl)
theorem dX2_find_2_33 : decode cX2_find_2 33 = .ok (.iload_n 1, 1) := dk_27 (dk_at dksX2_find_2_1 12 rfl rfl)
theorem dX2_find_2_34 : decode cX2_find_2 34 = .ok (.iload_n 2, 1) := dk_28 (dk_at dksX2_find_2_1 13 rfl rfl)
theorem dX2_find_2_35 : decode cX2_find_2 35 = .ok (.iload_n 3, 1) := dk_29 (dk_at dksX2_find_2_1 14 rfl rfl)
theorem dX2_find_2_36 : decode cX2_find_2 36 = .ok (.invokevirtual 70, 3) := dk_182 0 70 (dk_at dksX2_find_2_1 15 rfl rfl)
theorem dX2_find_2_39 : decode cX2_find_2 39 = .ok (.ifCond .eq 6, 3) := dk_153 0 6 (dk_at dksX2_find_2_1 18 rfl rfl)
theorem dX2_find_2_42 : decode cX2_find_2 42 = .ok (.aload 5, 2) := dk_25 5 (dk_at dksX2_find_2_1 21 rfl rfl)
theorem dX2_find_2_44 : decode cX2_find_2 44 = .ok (.areturn, 1) := dk_176 (dk_at dksX2_find_2_1 23 rfl rfl)
theorem dX2_find_2_45 : decode cX2_find_2 45 = .ok (.goto (-36), 3) := dk_167 255 220 (dk_at dksX2_find_2_2 0 rfl rfl)
theorem dX2_find_2_48 : decode cX2_find_2 48 = .ok (.aconst_null, 1) := dk_1 (dk_at dksX2_find_2_2 3 rfl rfl)
theorem dX2_find_2_49 : decode cX2_find_2 49 = .ok (.areturn, 1) := dk_176 (dk_at dksX2_find_2_2 4 rfl rfl)
abbrev cX2_isThere : ByteArray := prog_2_method_34_code
def yX2_isThere : MethodName := ⟨RX2, "isThere", "(I)Z"⟩
def dkwX2_isThere_0 : List UInt8 := [27, 2, 159, 0, 11, 42, 27, 182, 0, 77, 198, 0, 7, 4, 167, 0, 4, 3, 172]
abbrev dktX2_isThere_0 : List UInt8 := dkwX2_isThere_0 ++ []
theorem dksX2_isThere_0 : cX2_isThere.data.toList.drop 0 = dktX2_isThere_0 := by decide +kernel
theorem dX2_isThere_0 : decode cX2_isThere 0 = .ok (.iload_n 1, 1) := dk_27 (dk_at dksX2_isThere_0 0 rfl rfl)
theorem dX2_isThere_1 : decode cX2_isThere 1 = .ok (.iconst (-1), 1) := dk_2 (dk_at dksX2_isThere_0 1 rfl rfl)
theorem dX2_isThere_2 : decode cX2_isThere 2 = .ok (.if_icmp .eq 11, 3) := dk_159 0 11 (dk_at dksX2_isThere_0 2 rfl rfl)
theorem dX2_isThere_5 : decode cX2_isThere 5 = .ok (.aload_n 0, 1) := dk_42 (dk_at dksX2_isThere_0 5 rfl rfl)
theorem dX2_isThere_6 : decode cX2_isThere 6 = .ok (.iload_n 1, 1) := dk_27 (dk_at dksX2_isThere_0 6 rfl rfl)
theorem dX2_isThere_7 : decode cX2_isThere 7 = .ok (.invokevirtual 77, 3) := dk_182 0 77 (dk_at dksX2_isThere_0 7 rfl rfl)
theorem dX2_isThere_10 : decode cX2_isThere 10 = .ok (.ifnull 7, 3) := dk_198 0 7 (dk_at dksX2_isThere_0 10 rfl rfl)
theorem dX2_isThere_13 : decode cX2_isThere 13 = .ok (.iconst 1, 1) := dk_4 (dk_at dksX2_isThere_0 13 rfl rfl)
theorem dX2_isThere_14 : decode cX2_isThere 14 = .ok (.goto 4, 3) := dk_167 0 4 (dk_at dksX2_isThere_0 14 rfl rfl)
theorem dX2_isThere_17 : decode cX2_isThere 17 = .ok (.iconst 0, 1) := dk_3 (dk_at dksX2_isThere_0 17 rfl rfl)
theorem dX2_isThere_18 : decode cX2_isThere 18 = .ok (.ireturn, 1) := dk_172 (dk_at dksX2_isThere_0 18 rfl rfl)
abbrev cX2_lambda_isInOrder_5 : ByteArray := prog_2_method_39_code
def yX2_lambda_isInOrder_5 : MethodName := ⟨RX2, "lambda$isInOrder$5", "(LMatchmakerRules$Firing;LMatchmakerRules$Firing;)Z"⟩
def dkwX2_lambda_isInOrder_5_0 : List UInt8 := [43, 42, 182, 1, 62, 172]
abbrev dktX2_lambda_isInOrder_5_0 : List UInt8 := dkwX2_lambda_isInOrder_5_0 ++ []
theorem dksX2_lambda_isInOrder_5_0 : cX2_lambda_isInOrder_5.data.toList.drop 0 = dktX2_lambda_isInOrder_5_0 := by decide +kernel
theorem dX2_lambda_isInOrder_5_0 : decode cX2_lambda_isInOrder_5 0 = .ok (.aload_n 1, 1) := dk_43 (dk_at dksX2_lambda_isInOrder_5_0 0 rfl rfl)
theorem dX2_lambda_isInOrder_5_1 : decode cX2_lambda_isInOrder_5 1 = .ok (.aload_n 0, 1) := dk_42 (dk_at dksX2_lambda_isInOrder_5_0 1 rfl rfl)
theorem dX2_lambda_isInOrder_5_2 : decode cX2_lambda_isInOrder_5 2 = .ok (.invokevirtual 318, 3) := dk_182 1 62 (dk_at dksX2_lambda_isInOrder_5_0 2 rfl rfl)
theorem dX2_lambda_isInOrder_5_5 : decode cX2_lambda_isInOrder_5 5 = .ok (.ireturn, 1) := dk_172 (dk_at dksX2_lambda_isInOrder_5_0 5 rfl rfl)
abbrev cX2_copy : ByteArray := prog_2_method_2_code
def yX2_copy : MethodName := ⟨RX2, "copy", "()LMatchmakerRules$Book;"⟩
def dkwX2_copy_5 : List UInt8 := [181, 0, 64, 43, 42, 180, 0, 67, 181, 0, 67, 43, 176]
abbrev dktX2_copy_5 : List UInt8 := dkwX2_copy_5 ++ []
def dkwX2_copy_4 : List UInt8 := [167, 255, 224, 43, 42, 180, 0, 57, 181, 0, 57, 43, 42, 180, 0, 61, 181, 0, 61, 43, 42, 180, 0, 64]
abbrev dktX2_copy_4 : List UInt8 := dkwX2_copy_4 ++ dktX2_copy_5
def dkwX2_copy_3 : List UInt8 := [185, 0, 41, 1, 0, 192, 0, 51, 78, 43, 180, 0, 27, 45, 182, 0, 53, 182, 0, 47, 54, 4]
abbrev dktX2_copy_3 : List UInt8 := dkwX2_copy_3 ++ dktX2_copy_4
def dkwX2_copy_2 : List UInt8 := [167, 255, 227, 42, 180, 0, 27, 182, 0, 31, 77, 44, 185, 0, 35, 1, 0, 153, 0, 29, 44]
abbrev dktX2_copy_2 : List UInt8 := dkwX2_copy_2 ++ dktX2_copy_3
def dkwX2_copy_1 : List UInt8 := [153, 0, 26, 44, 185, 0, 41, 1, 0, 192, 0, 45, 78, 43, 180, 0, 23, 45, 182, 0, 47, 54, 4]
abbrev dktX2_copy_1 : List UInt8 := dkwX2_copy_1 ++ dktX2_copy_2
def dkwX2_copy_0 : List UInt8 := [187, 0, 15, 89, 183, 0, 30, 76, 42, 180, 0, 23, 182, 0, 31, 77, 44, 185, 0, 35, 1, 0]
abbrev dktX2_copy_0 : List UInt8 := dkwX2_copy_0 ++ dktX2_copy_1
theorem dksX2_copy_0 : cX2_copy.data.toList.drop 0 = dktX2_copy_0 := by decide +kernel
theorem dksX2_copy_1 : cX2_copy.data.toList.drop 22 = dktX2_copy_1 := dk_seg dksX2_copy_0 22 rfl rfl
theorem dksX2_copy_2 : cX2_copy.data.toList.drop 45 = dktX2_copy_2 := dk_seg dksX2_copy_1 23 rfl rfl
theorem dksX2_copy_3 : cX2_copy.data.toList.drop 66 = dktX2_copy_3 := dk_seg dksX2_copy_2 21 rfl rfl
theorem dksX2_copy_4 : cX2_copy.data.toList.drop 88 = dktX2_copy_4 := dk_seg dksX2_copy_3 22 rfl rfl
theorem dksX2_copy_5 : cX2_copy.data.toList.drop 112 = dktX2_copy_5 := dk_seg dksX2_copy_4 24 rfl rfl
theorem dX2_copy_0 : decode cX2_copy 0 = .ok (.new 15, 3) := dk_187 0 15 (dk_at dksX2_copy_0 0 rfl rfl)
theorem dX2_copy_3 : decode cX2_copy 3 = .ok (.dup, 1) := dk_89 (dk_at dksX2_copy_0 3 rfl rfl)
theorem dX2_copy_4 : decode cX2_copy 4 = .ok (.invokespecial 30, 3) := dk_183 0 30 (dk_at dksX2_copy_0 4 rfl rfl)
theorem dX2_copy_7 : decode cX2_copy 7 = .ok (.astore_n 1, 1) := dk_76 (dk_at dksX2_copy_0 7 rfl rfl)
theorem dX2_copy_8 : decode cX2_copy 8 = .ok (.aload_n 0, 1) := dk_42 (dk_at dksX2_copy_0 8 rfl rfl)
theorem dX2_copy_9 : decode cX2_copy 9 = .ok (.getfield 23, 3) := dk_180 0 23 (dk_at dksX2_copy_0 9 rfl rfl)
theorem dX2_copy_12 : decode cX2_copy 12 = .ok (.invokevirtual 31, 3) := dk_182 0 31 (dk_at dksX2_copy_0 12 rfl rfl)
theorem dX2_copy_15 : decode cX2_copy 15 = .ok (.astore_n 2, 1) := dk_77 (dk_at dksX2_copy_0 15 rfl rfl)
theorem dX2_copy_16 : decode cX2_copy 16 = .ok (.aload_n 2, 1) := dk_44 (dk_at dksX2_copy_0 16 rfl rfl)
theorem dX2_copy_17 : decode cX2_copy 17 = .ok (.invokeinterface 35 1, 5) := by decide +kernel
theorem dX2_copy_22 : decode cX2_copy 22 = .ok (.ifCond .eq 26, 3) := dk_153 0 26 (dk_at dksX2_copy_1 0 rfl rfl)
theorem dX2_copy_25 : decode cX2_copy 25 = .ok (.aload_n 2, 1) := dk_44 (dk_at dksX2_copy_1 3 rfl rfl)
theorem dX2_copy_26 : decode cX2_copy 26 = .ok (.invokeinterface 41 1, 5) := by decide +kernel
theorem dX2_copy_31 : decode cX2_copy 31 = .ok (.checkcast 45, 3) := dk_192 0 45 (dk_at dksX2_copy_1 9 rfl rfl)
theorem dX2_copy_34 : decode cX2_copy 34 = .ok (.astore_n 3, 1) := dk_78 (dk_at dksX2_copy_1 12 rfl rfl)
theorem dX2_copy_35 : decode cX2_copy 35 = .ok (.aload_n 1, 1) := dk_43 (dk_at dksX2_copy_1 13 rfl rfl)
theorem dX2_copy_36 : decode cX2_copy 36 = .ok (.getfield 23, 3) := dk_180 0 23 (dk_at dksX2_copy_1 14 rfl rfl)
theorem dX2_copy_39 : decode cX2_copy 39 = .ok (.aload_n 3, 1) := dk_45 (dk_at dksX2_copy_1 17 rfl rfl)
theorem dX2_copy_40 : decode cX2_copy 40 = .ok (.invokevirtual 47, 3) := dk_182 0 47 (dk_at dksX2_copy_1 18 rfl rfl)
theorem dX2_copy_43 : decode cX2_copy 43 = .ok (.istore 4, 2) := dk_54 4 (dk_at dksX2_copy_1 21 rfl rfl)
theorem dX2_copy_45 : decode cX2_copy 45 = .ok (.goto (-29), 3) := dk_167 255 227 (dk_at dksX2_copy_2 0 rfl rfl)
theorem dX2_copy_48 : decode cX2_copy 48 = .ok (.aload_n 0, 1) := dk_42 (dk_at dksX2_copy_2 3 rfl rfl)
theorem dX2_copy_49 : decode cX2_copy 49 = .ok (.getfield 27, 3) := dk_180 0 27 (dk_at dksX2_copy_2 4 rfl rfl)
theorem dX2_copy_52 : decode cX2_copy 52 = .ok (.invokevirtual 31, 3) := dk_182 0 31 (dk_at dksX2_copy_2 7 rfl rfl)
theorem dX2_copy_55 : decode cX2_copy 55 = .ok (.astore_n 2, 1) := dk_77 (dk_at dksX2_copy_2 10 rfl rfl)
theorem dX2_copy_56 : decode cX2_copy 56 = .ok (.aload_n 2, 1) := dk_44 (dk_at dksX2_copy_2 11 rfl rfl)
theorem dX2_copy_57 : decode cX2_copy 57 = .ok (.invokeinterface 35 1, 5) := by decide +kernel
theorem dX2_copy_62 : decode cX2_copy 62 = .ok (.ifCond .eq 29, 3) := dk_153 0 29 (dk_at dksX2_copy_2 17 rfl rfl)
theorem dX2_copy_65 : decode cX2_copy 65 = .ok (.aload_n 2, 1) := dk_44 (dk_at dksX2_copy_2 20 rfl rfl)
theorem dX2_copy_66 : decode cX2_copy 66 = .ok (.invokeinterface 41 1, 5) := by decide +kernel
theorem dX2_copy_71 : decode cX2_copy 71 = .ok (.checkcast 51, 3) := dk_192 0 51 (dk_at dksX2_copy_3 5 rfl rfl)
theorem dX2_copy_74 : decode cX2_copy 74 = .ok (.astore_n 3, 1) := dk_78 (dk_at dksX2_copy_3 8 rfl rfl)
theorem dX2_copy_75 : decode cX2_copy 75 = .ok (.aload_n 1, 1) := dk_43 (dk_at dksX2_copy_3 9 rfl rfl)
theorem dX2_copy_76 : decode cX2_copy 76 = .ok (.getfield 27, 3) := dk_180 0 27 (dk_at dksX2_copy_3 10 rfl rfl)
theorem dX2_copy_79 : decode cX2_copy 79 = .ok (.aload_n 3, 1) := dk_45 (dk_at dksX2_copy_3 13 rfl rfl)
theorem dX2_copy_80 : decode cX2_copy 80 = .ok (.invokevirtual 53, 3) := dk_182 0 53 (dk_at dksX2_copy_3 14 rfl rfl)
theorem dX2_copy_83 : decode cX2_copy 83 = .ok (.invokevirtual 47, 3) := dk_182 0 47 (dk_at dksX2_copy_3 17 rfl rfl)
theorem dX2_copy_86 : decode cX2_copy 86 = .ok (.istore 4, 2) := dk_54 4 (dk_at dksX2_copy_3 20 rfl rfl)
theorem dX2_copy_88 : decode cX2_copy 88 = .ok (.goto (-32), 3) := dk_167 255 224 (dk_at dksX2_copy_4 0 rfl rfl)
theorem dX2_copy_91 : decode cX2_copy 91 = .ok (.aload_n 1, 1) := dk_43 (dk_at dksX2_copy_4 3 rfl rfl)
theorem dX2_copy_92 : decode cX2_copy 92 = .ok (.aload_n 0, 1) := dk_42 (dk_at dksX2_copy_4 4 rfl rfl)
theorem dX2_copy_93 : decode cX2_copy 93 = .ok (.getfield 57, 3) := dk_180 0 57 (dk_at dksX2_copy_4 5 rfl rfl)
theorem dX2_copy_96 : decode cX2_copy 96 = .ok (.putfield 57, 3) := dk_181 0 57 (dk_at dksX2_copy_4 8 rfl rfl)
theorem dX2_copy_99 : decode cX2_copy 99 = .ok (.aload_n 1, 1) := dk_43 (dk_at dksX2_copy_4 11 rfl rfl)
theorem dX2_copy_100 : decode cX2_copy 100 = .ok (.aload_n 0, 1) := dk_42 (dk_at dksX2_copy_4 12 rfl rfl)
theorem dX2_copy_101 : decode cX2_copy 101 = .ok (.getfield 61, 3) := dk_180 0 61 (dk_at dksX2_copy_4 13 rfl rfl)
theorem dX2_copy_104 : decode cX2_copy 104 = .ok (.putfield 61, 3) := dk_181 0 61 (dk_at dksX2_copy_4 16 rfl rfl)
theorem dX2_copy_107 : decode cX2_copy 107 = .ok (.aload_n 1, 1) := dk_43 (dk_at dksX2_copy_4 19 rfl rfl)
theorem dX2_copy_108 : decode cX2_copy 108 = .ok (.aload_n 0, 1) := dk_42 (dk_at dksX2_copy_4 20 rfl rfl)
theorem dX2_copy_109 : decode cX2_copy 109 = .ok (.getfield 64, 3) := dk_180 0 64 (dk_at dksX2_copy_4 21 rfl rfl)
theorem dX2_copy_112 : decode cX2_copy 112 = .ok (.putfield 64, 3) := dk_181 0 64 (dk_at dksX2_copy_5 0 rfl rfl)
theorem dX2_copy_115 : decode cX2_copy 115 = .ok (.aload_n 1, 1) := dk_43 (dk_at dksX2_copy_5 3 rfl rfl)
theorem dX2_copy_116 : decode cX2_copy 116 = .ok (.aload_n 0, 1) := dk_42 (dk_at dksX2_copy_5 4 rfl rfl)
theorem dX2_copy_117 : decode cX2_copy 117 = .ok (.getfield 67, 3) := dk_180 0 67 (dk_at dksX2_copy_5 5 rfl rfl)
theorem dX2_copy_120 : decode cX2_copy 120 = .ok (.putfield 67, 3) := dk_181 0 67 (dk_at dksX2_copy_5 8 rfl rfl)
theorem dX2_copy_123 : decode cX2_copy 123 = .ok (.aload_n 1, 1) := dk_43 (dk_at dksX2_copy_5 11 rfl rfl)
theorem dX2_copy_124 : decode cX2_copy 124 = .ok (.areturn, 1) := dk_176 (dk_at dksX2_copy_5 12 rfl rfl)
abbrev cX2_add : ByteArray := prog_2_method_24_code
def yX2_add : MethodName := ⟨RX2, "add", "(LMatchmakerRules$Rule;)I"⟩
def dkwX2_add_1 : List UInt8 := [180, 0, 23, 43, 182, 0, 47, 61, 42, 180, 0, 23, 182, 0, 85, 4, 100, 172]
abbrev dktX2_add_1 : List UInt8 := dkwX2_add_1 ++ []
def dkwX2_add_0 : List UInt8 := [42, 180, 0, 23, 182, 0, 85, 16, 8, 162, 0, 7, 4, 167, 0, 4, 3, 4, 16, 8, 184, 0, 196, 42]
abbrev dktX2_add_0 : List UInt8 := dkwX2_add_0 ++ dktX2_add_1
theorem dksX2_add_0 : cX2_add.data.toList.drop 0 = dktX2_add_0 := by decide +kernel
theorem dksX2_add_1 : cX2_add.data.toList.drop 24 = dktX2_add_1 := dk_seg dksX2_add_0 24 rfl rfl
theorem dX2_add_0 : decode cX2_add 0 = .ok (.aload_n 0, 1) := dk_42 (dk_at dksX2_add_0 0 rfl rfl)
theorem dX2_add_1 : decode cX2_add 1 = .ok (.getfield 23, 3) := dk_180 0 23 (dk_at dksX2_add_0 1 rfl rfl)
theorem dX2_add_4 : decode cX2_add 4 = .ok (.invokevirtual 85, 3) := dk_182 0 85 (dk_at dksX2_add_0 4 rfl rfl)
theorem dX2_add_7 : decode cX2_add 7 = .ok (.bipush 8, 2) := dk_16 8 (dk_at dksX2_add_0 7 rfl rfl)
theorem dX2_add_9 : decode cX2_add 9 = .ok (.if_icmp .ge 7, 3) := dk_162 0 7 (dk_at dksX2_add_0 9 rfl rfl)
theorem dX2_add_12 : decode cX2_add 12 = .ok (.iconst 1, 1) := dk_4 (dk_at dksX2_add_0 12 rfl rfl)
theorem dX2_add_13 : decode cX2_add 13 = .ok (.goto 4, 3) := dk_167 0 4 (dk_at dksX2_add_0 13 rfl rfl)
theorem dX2_add_16 : decode cX2_add 16 = .ok (.iconst 0, 1) := dk_3 (dk_at dksX2_add_0 16 rfl rfl)
theorem dX2_add_17 : decode cX2_add 17 = .ok (.iconst 1, 1) := dk_4 (dk_at dksX2_add_0 17 rfl rfl)
theorem dX2_add_18 : decode cX2_add 18 = .ok (.bipush 8, 2) := dk_16 8 (dk_at dksX2_add_0 18 rfl rfl)
theorem dX2_add_20 : decode cX2_add 20 = .ok (.invokestatic 196, 3) := dk_184 0 196 (dk_at dksX2_add_0 20 rfl rfl)
theorem dX2_add_23 : decode cX2_add 23 = .ok (.aload_n 0, 1) := dk_42 (dk_at dksX2_add_0 23 rfl rfl)
theorem dX2_add_24 : decode cX2_add 24 = .ok (.getfield 23, 3) := dk_180 0 23 (dk_at dksX2_add_1 0 rfl rfl)
theorem dX2_add_27 : decode cX2_add 27 = .ok (.aload_n 1, 1) := dk_43 (dk_at dksX2_add_1 3 rfl rfl)
theorem dX2_add_28 : decode cX2_add 28 = .ok (.invokevirtual 47, 3) := dk_182 0 47 (dk_at dksX2_add_1 4 rfl rfl)
theorem dX2_add_31 : decode cX2_add 31 = .ok (.istore_n 2, 1) := dk_61 (dk_at dksX2_add_1 7 rfl rfl)
theorem dX2_add_32 : decode cX2_add 32 = .ok (.aload_n 0, 1) := dk_42 (dk_at dksX2_add_1 8 rfl rfl)
theorem dX2_add_33 : decode cX2_add 33 = .ok (.getfield 23, 3) := dk_180 0 23 (dk_at dksX2_add_1 9 rfl rfl)
theorem dX2_add_36 : decode cX2_add 36 = .ok (.invokevirtual 85, 3) := dk_182 0 85 (dk_at dksX2_add_1 12 rfl rfl)
theorem dX2_add_39 : decode cX2_add 39 = .ok (.iconst 1, 1) := dk_4 (dk_at dksX2_add_1 15 rfl rfl)
theorem dX2_add_40 : decode cX2_add 40 = .ok (.isub, 1) := dk_100 (dk_at dksX2_add_1 16 rfl rfl)
theorem dX2_add_41 : decode cX2_add 41 = .ok (.ireturn, 1) := dk_172 (dk_at dksX2_add_1 17 rfl rfl)
abbrev cX2_drop : ByteArray := prog_2_method_25_code
def yX2_drop : MethodName := ⟨RX2, "drop", "(I)I"⟩
def dkwX2_drop_4 : List UInt8 := [167, 255, 208, 42, 182, 0, 253, 172]
abbrev dktX2_drop_4 : List UInt8 := dkwX2_drop_4 ++ []
def dkwX2_drop_3 : List UInt8 := [44, 186, 0, 249, 0, 0, 184, 0, 245, 25, 4, 180, 0, 186, 44, 186, 0, 252, 0, 0, 184, 0, 245]
abbrev dktX2_drop_3 : List UInt8 := dkwX2_drop_3 ++ dktX2_drop_4
def dkwX2_drop_2 : List UInt8 := [185, 0, 35, 1, 0, 153, 0, 45, 45, 185, 0, 41, 1, 0, 192, 0, 51, 58, 4, 25, 4, 180, 0, 183]
abbrev dktX2_drop_2 : List UInt8 := dkwX2_drop_2 ++ dktX2_drop_3
def dkwX2_drop_1 : List UInt8 := [180, 0, 23, 27, 182, 0, 238, 192, 0, 45, 77, 42, 180, 0, 27, 182, 0, 31, 78, 45]
abbrev dktX2_drop_1 : List UInt8 := dkwX2_drop_1 ++ dktX2_drop_2
def dkwX2_drop_0 : List UInt8 := [27, 133, 9, 42, 180, 0, 23, 182, 0, 85, 4, 100, 133, 184, 0, 89, 6, 27, 184, 0, 196, 42]
abbrev dktX2_drop_0 : List UInt8 := dkwX2_drop_0 ++ dktX2_drop_1
theorem dksX2_drop_0 : cX2_drop.data.toList.drop 0 = dktX2_drop_0 := by decide +kernel
theorem dksX2_drop_1 : cX2_drop.data.toList.drop 22 = dktX2_drop_1 := dk_seg dksX2_drop_0 22 rfl rfl
theorem dksX2_drop_2 : cX2_drop.data.toList.drop 42 = dktX2_drop_2 := dk_seg dksX2_drop_1 20 rfl rfl
theorem dksX2_drop_3 : cX2_drop.data.toList.drop 66 = dktX2_drop_3 := dk_seg dksX2_drop_2 24 rfl rfl
theorem dksX2_drop_4 : cX2_drop.data.toList.drop 89 = dktX2_drop_4 := dk_seg dksX2_drop_3 23 rfl rfl
theorem dX2_drop_0 : decode cX2_drop 0 = .ok (.iload_n 1, 1) := dk_27 (dk_at dksX2_drop_0 0 rfl rfl)
theorem dX2_drop_1 : decode cX2_drop 1 = .ok (.i2l, 1) := dk_133 (dk_at dksX2_drop_0 1 rfl rfl)
theorem dX2_drop_2 : decode cX2_drop 2 = .ok (.lconst 0, 1) := dk_9 (dk_at dksX2_drop_0 2 rfl rfl)
theorem dX2_drop_3 : decode cX2_drop 3 = .ok (.aload_n 0, 1) := dk_42 (dk_at dksX2_drop_0 3 rfl rfl)
theorem dX2_drop_4 : decode cX2_drop 4 = .ok (.getfield 23, 3) := dk_180 0 23 (dk_at dksX2_drop_0 4 rfl rfl)
theorem dX2_drop_7 : decode cX2_drop 7 = .ok (.invokevirtual 85, 3) := dk_182 0 85 (dk_at dksX2_drop_0 7 rfl rfl)
theorem dX2_drop_10 : decode cX2_drop 10 = .ok (.iconst 1, 1) := dk_4 (dk_at dksX2_drop_0 10 rfl rfl)
theorem dX2_drop_11 : decode cX2_drop 11 = .ok (.isub, 1) := dk_100 (dk_at dksX2_drop_0 11 rfl rfl)
theorem dX2_drop_12 : decode cX2_drop 12 = .ok (.i2l, 1) := dk_133 (dk_at dksX2_drop_0 12 rfl rfl)
theorem dX2_drop_13 : decode cX2_drop 13 = .ok (.invokestatic 89, 3) := dk_184 0 89 (dk_at dksX2_drop_0 13 rfl rfl)
theorem dX2_drop_16 : decode cX2_drop 16 = .ok (.iconst 3, 1) := dk_6 (dk_at dksX2_drop_0 16 rfl rfl)
theorem dX2_drop_17 : decode cX2_drop 17 = .ok (.iload_n 1, 1) := dk_27 (dk_at dksX2_drop_0 17 rfl rfl)
theorem dX2_drop_18 : decode cX2_drop 18 = .ok (.invokestatic 196, 3) := dk_184 0 196 (dk_at dksX2_drop_0 18 rfl rfl)
theorem dX2_drop_21 : decode cX2_drop 21 = .ok (.aload_n 0, 1) := dk_42 (dk_at dksX2_drop_0 21 rfl rfl)
theorem dX2_drop_22 : decode cX2_drop 22 = .ok (.getfield 23, 3) := dk_180 0 23 (dk_at dksX2_drop_1 0 rfl rfl)
theorem dX2_drop_25 : decode cX2_drop 25 = .ok (.iload_n 1, 1) := dk_27 (dk_at dksX2_drop_1 3 rfl rfl)
theorem dX2_drop_26 : decode cX2_drop 26 = .ok (.invokevirtual 238, 3) := dk_182 0 238 (dk_at dksX2_drop_1 4 rfl rfl)
theorem dX2_drop_29 : decode cX2_drop 29 = .ok (.checkcast 45, 3) := dk_192 0 45 (dk_at dksX2_drop_1 7 rfl rfl)
theorem dX2_drop_32 : decode cX2_drop 32 = .ok (.astore_n 2, 1) := dk_77 (dk_at dksX2_drop_1 10 rfl rfl)
theorem dX2_drop_33 : decode cX2_drop 33 = .ok (.aload_n 0, 1) := dk_42 (dk_at dksX2_drop_1 11 rfl rfl)
theorem dX2_drop_34 : decode cX2_drop 34 = .ok (.getfield 27, 3) := dk_180 0 27 (dk_at dksX2_drop_1 12 rfl rfl)
theorem dX2_drop_37 : decode cX2_drop 37 = .ok (.invokevirtual 31, 3) := dk_182 0 31 (dk_at dksX2_drop_1 15 rfl rfl)
theorem dX2_drop_40 : decode cX2_drop 40 = .ok (.astore_n 3, 1) := dk_78 (dk_at dksX2_drop_1 18 rfl rfl)
theorem dX2_drop_41 : decode cX2_drop 41 = .ok (.aload_n 3, 1) := dk_45 (dk_at dksX2_drop_1 19 rfl rfl)
theorem dX2_drop_42 : decode cX2_drop 42 = .ok (.invokeinterface 35 1, 5) := by decide +kernel
theorem dX2_drop_47 : decode cX2_drop 47 = .ok (.ifCond .eq 45, 3) := dk_153 0 45 (dk_at dksX2_drop_2 5 rfl rfl)
theorem dX2_drop_50 : decode cX2_drop 50 = .ok (.aload_n 3, 1) := dk_45 (dk_at dksX2_drop_2 8 rfl rfl)
theorem dX2_drop_51 : decode cX2_drop 51 = .ok (.invokeinterface 41 1, 5) := by decide +kernel
theorem dX2_drop_56 : decode cX2_drop 56 = .ok (.checkcast 51, 3) := dk_192 0 51 (dk_at dksX2_drop_2 14 rfl rfl)
theorem dX2_drop_59 : decode cX2_drop 59 = .ok (.astore 4, 2) := dk_58 4 (dk_at dksX2_drop_2 17 rfl rfl)
theorem dX2_drop_61 : decode cX2_drop 61 = .ok (.aload 4, 2) := dk_25 4 (dk_at dksX2_drop_2 19 rfl rfl)
theorem dX2_drop_63 : decode cX2_drop 63 = .ok (.getfield 183, 3) := dk_180 0 183 (dk_at dksX2_drop_2 21 rfl rfl)
theorem dX2_drop_66 : decode cX2_drop 66 = .ok (.aload_n 2, 1) := dk_44 (dk_at dksX2_drop_3 0 rfl rfl)
theorem dX2_drop_67 : decode cX2_drop 67 = .ok (.invokedynamic 249, 5) := by decide +kernel
theorem dX2_drop_72 : decode cX2_drop 72 = .ok (.invokestatic 245, 3) := dk_184 0 245 (dk_at dksX2_drop_3 6 rfl rfl)
theorem dX2_drop_75 : decode cX2_drop 75 = .ok (.aload 4, 2) := dk_25 4 (dk_at dksX2_drop_3 9 rfl rfl)
theorem dX2_drop_77 : decode cX2_drop 77 = .ok (.getfield 186, 3) := dk_180 0 186 (dk_at dksX2_drop_3 11 rfl rfl)
theorem dX2_drop_80 : decode cX2_drop 80 = .ok (.aload_n 2, 1) := dk_44 (dk_at dksX2_drop_3 14 rfl rfl)
theorem dX2_drop_81 : decode cX2_drop 81 = .ok (.invokedynamic 252, 5) := by decide +kernel
theorem dX2_drop_86 : decode cX2_drop 86 = .ok (.invokestatic 245, 3) := dk_184 0 245 (dk_at dksX2_drop_3 20 rfl rfl)
theorem dX2_drop_89 : decode cX2_drop 89 = .ok (.goto (-48), 3) := dk_167 255 208 (dk_at dksX2_drop_4 0 rfl rfl)
theorem dX2_drop_92 : decode cX2_drop 92 = .ok (.aload_n 0, 1) := dk_42 (dk_at dksX2_drop_4 3 rfl rfl)
theorem dX2_drop_93 : decode cX2_drop 93 = .ok (.invokevirtual 253, 3) := dk_182 0 253 (dk_at dksX2_drop_4 4 rfl rfl)
theorem dX2_drop_96 : decode cX2_drop 96 = .ok (.ireturn, 1) := dk_172 (dk_at dksX2_drop_4 7 rfl rfl)
abbrev cX2_lambda_drop_2 : ByteArray := prog_2_method_42_code
def yX2_lambda_drop_2 : MethodName := ⟨RX2, "lambda$drop$2", "(LMatchmakerRules$Rule;LMatchmakerRules$Firing;)Z"⟩
def dkwX2_lambda_drop_2_0 : List UInt8 := [43, 180, 0, 149, 42, 166, 0, 7, 4, 167, 0, 4, 3, 172]
abbrev dktX2_lambda_drop_2_0 : List UInt8 := dkwX2_lambda_drop_2_0 ++ []
theorem dksX2_lambda_drop_2_0 : cX2_lambda_drop_2.data.toList.drop 0 = dktX2_lambda_drop_2_0 := by decide +kernel
theorem dX2_lambda_drop_2_0 : decode cX2_lambda_drop_2 0 = .ok (.aload_n 1, 1) := dk_43 (dk_at dksX2_lambda_drop_2_0 0 rfl rfl)
theorem dX2_lambda_drop_2_1 : decode cX2_lambda_drop_2 1 = .ok (.getfield 149, 3) := dk_180 0 149 (dk_at dksX2_lambda_drop_2_0 1 rfl rfl)
theorem dX2_lambda_drop_2_4 : decode cX2_lambda_drop_2 4 = .ok (.aload_n 0, 1) := dk_42 (dk_at dksX2_lambda_drop_2_0 4 rfl rfl)
theorem dX2_lambda_drop_2_5 : decode cX2_lambda_drop_2 5 = .ok (.if_acmp .ne 7, 3) := dk_166 0 7 (dk_at dksX2_lambda_drop_2_0 5 rfl rfl)
theorem dX2_lambda_drop_2_8 : decode cX2_lambda_drop_2 8 = .ok (.iconst 1, 1) := dk_4 (dk_at dksX2_lambda_drop_2_0 8 rfl rfl)
theorem dX2_lambda_drop_2_9 : decode cX2_lambda_drop_2 9 = .ok (.goto 4, 3) := dk_167 0 4 (dk_at dksX2_lambda_drop_2_0 9 rfl rfl)
theorem dX2_lambda_drop_2_12 : decode cX2_lambda_drop_2 12 = .ok (.iconst 0, 1) := dk_3 (dk_at dksX2_lambda_drop_2_0 12 rfl rfl)
theorem dX2_lambda_drop_2_13 : decode cX2_lambda_drop_2 13 = .ok (.ireturn, 1) := dk_172 (dk_at dksX2_lambda_drop_2_0 13 rfl rfl)
abbrev cX2_lambda_drop_3 : ByteArray := prog_2_method_41_code
def yX2_lambda_drop_3 : MethodName := ⟨RX2, "lambda$drop$3", "(LMatchmakerRules$Rule;LMatchmakerRules$Firing;)Z"⟩
def dkwX2_lambda_drop_3_0 : List UInt8 := [43, 180, 0, 149, 42, 166, 0, 7, 4, 167, 0, 4, 3, 172]
abbrev dktX2_lambda_drop_3_0 : List UInt8 := dkwX2_lambda_drop_3_0 ++ []
theorem dksX2_lambda_drop_3_0 : cX2_lambda_drop_3.data.toList.drop 0 = dktX2_lambda_drop_3_0 := by decide +kernel
theorem dX2_lambda_drop_3_0 : decode cX2_lambda_drop_3 0 = .ok (.aload_n 1, 1) := dk_43 (dk_at dksX2_lambda_drop_3_0 0 rfl rfl)
theorem dX2_lambda_drop_3_1 : decode cX2_lambda_drop_3 1 = .ok (.getfield 149, 3) := dk_180 0 149 (dk_at dksX2_lambda_drop_3_0 1 rfl rfl)
theorem dX2_lambda_drop_3_4 : decode cX2_lambda_drop_3 4 = .ok (.aload_n 0, 1) := dk_42 (dk_at dksX2_lambda_drop_3_0 4 rfl rfl)
theorem dX2_lambda_drop_3_5 : decode cX2_lambda_drop_3 5 = .ok (.if_acmp .ne 7, 3) := dk_166 0 7 (dk_at dksX2_lambda_drop_3_0 5 rfl rfl)
theorem dX2_lambda_drop_3_8 : decode cX2_lambda_drop_3 8 = .ok (.iconst 1, 1) := dk_4 (dk_at dksX2_lambda_drop_3_0 8 rfl rfl)
theorem dX2_lambda_drop_3_9 : decode cX2_lambda_drop_3 9 = .ok (.goto 4, 3) := dk_167 0 4 (dk_at dksX2_lambda_drop_3_0 9 rfl rfl)
theorem dX2_lambda_drop_3_12 : decode cX2_lambda_drop_3 12 = .ok (.iconst 0, 1) := dk_3 (dk_at dksX2_lambda_drop_3_0 12 rfl rfl)
theorem dX2_lambda_drop_3_13 : decode cX2_lambda_drop_3 13 = .ok (.ireturn, 1) := dk_172 (dk_at dksX2_lambda_drop_3_0 13 rfl rfl)
abbrev cX2_loseGround : ByteArray := prog_2_method_23_code
def yX2_loseGround : MethodName := ⟨RX2, "loseGround", "()I"⟩
def dkwX2_loseGround_5 : List UInt8 := [167, 255, 157, 42, 89, 180, 0, 61, 28, 96, 181, 0, 61, 28, 172]
abbrev dktX2_loseGround_5 : List UInt8 := dkwX2_loseGround_5 ++ []
def dkwX2_loseGround_4 : List UInt8 := [180, 0, 186, 21, 4, 186, 0, 248, 0, 0, 184, 0, 245, 167, 255, 204, 132, 2, 1, 132, 3, 255]
abbrev dktX2_loseGround_4 : List UInt8 := dkwX2_loseGround_4 ++ dktX2_loseGround_5
def dkwX2_loseGround_3 : List UInt8 := [192, 0, 51, 58, 6, 25, 6, 180, 0, 183, 21, 4, 186, 0, 241, 0, 0, 184, 0, 245, 25, 6]
abbrev dktX2_loseGround_3 : List UInt8 := dkwX2_loseGround_3 ++ dktX2_loseGround_4
def dkwX2_loseGround_2 : List UInt8 := [182, 0, 31, 58, 5, 25, 5, 185, 0, 35, 1, 0, 153, 0, 48, 25, 5, 185, 0, 41, 1, 0]
abbrev dktX2_loseGround_2 : List UInt8 := dkwX2_loseGround_2 ++ dktX2_loseGround_3
def dkwX2_loseGround_1 : List UInt8 := [161, 0, 86, 42, 180, 0, 27, 29, 182, 0, 238, 192, 0, 51, 180, 0, 74, 54, 4, 42, 180, 0, 27]
abbrev dktX2_loseGround_1 : List UInt8 := dkwX2_loseGround_1 ++ dktX2_loseGround_2
def dkwX2_loseGround_0 : List UInt8 := [42, 182, 0, 234, 76, 3, 61, 43, 190, 4, 100, 62, 29, 155, 0, 101, 43, 29, 46, 17, 3, 232]
abbrev dktX2_loseGround_0 : List UInt8 := dkwX2_loseGround_0 ++ dktX2_loseGround_1
theorem dksX2_loseGround_0 : cX2_loseGround.data.toList.drop 0 = dktX2_loseGround_0 := by decide +kernel
theorem dksX2_loseGround_1 : cX2_loseGround.data.toList.drop 22 = dktX2_loseGround_1 := dk_seg dksX2_loseGround_0 22 rfl rfl
theorem dksX2_loseGround_2 : cX2_loseGround.data.toList.drop 45 = dktX2_loseGround_2 := dk_seg dksX2_loseGround_1 23 rfl rfl
theorem dksX2_loseGround_3 : cX2_loseGround.data.toList.drop 67 = dktX2_loseGround_3 := dk_seg dksX2_loseGround_2 22 rfl rfl
theorem dksX2_loseGround_4 : cX2_loseGround.data.toList.drop 89 = dktX2_loseGround_4 := dk_seg dksX2_loseGround_3 22 rfl rfl
theorem dksX2_loseGround_5 : cX2_loseGround.data.toList.drop 111 = dktX2_loseGround_5 := dk_seg dksX2_loseGround_4 22 rfl rfl
theorem dX2_loseGround_0 : decode cX2_loseGround 0 = .ok (.aload_n 0, 1) := dk_42 (dk_at dksX2_loseGround_0 0 rfl rfl)
theorem dX2_loseGround_1 : decode cX2_loseGround 1 = .ok (.invokevirtual 234, 3) := dk_182 0 234 (dk_at dksX2_loseGround_0 1 rfl rfl)
theorem dX2_loseGround_4 : decode cX2_loseGround 4 = .ok (.astore_n 1, 1) := dk_76 (dk_at dksX2_loseGround_0 4 rfl rfl)
theorem dX2_loseGround_5 : decode cX2_loseGround 5 = .ok (.iconst 0, 1) := dk_3 (dk_at dksX2_loseGround_0 5 rfl rfl)
theorem dX2_loseGround_6 : decode cX2_loseGround 6 = .ok (.istore_n 2, 1) := dk_61 (dk_at dksX2_loseGround_0 6 rfl rfl)
theorem dX2_loseGround_7 : decode cX2_loseGround 7 = .ok (.aload_n 1, 1) := dk_43 (dk_at dksX2_loseGround_0 7 rfl rfl)
theorem dX2_loseGround_8 : decode cX2_loseGround 8 = .ok (.arraylength, 1) := dk_190 (dk_at dksX2_loseGround_0 8 rfl rfl)
theorem dX2_loseGround_9 : decode cX2_loseGround 9 = .ok (.iconst 1, 1) := dk_4 (dk_at dksX2_loseGround_0 9 rfl rfl)
theorem dX2_loseGround_10 : decode cX2_loseGround 10 = .ok (.isub, 1) := dk_100 (dk_at dksX2_loseGround_0 10 rfl rfl)
theorem dX2_loseGround_11 : decode cX2_loseGround 11 = .ok (.istore_n 3, 1) := dk_62 (dk_at dksX2_loseGround_0 11 rfl rfl)
theorem dX2_loseGround_12 : decode cX2_loseGround 12 = .ok (.iload_n 3, 1) := dk_29 (dk_at dksX2_loseGround_0 12 rfl rfl)
theorem dX2_loseGround_13 : decode cX2_loseGround 13 = .ok (.ifCond .lt 101, 3) := dk_155 0 101 (dk_at dksX2_loseGround_0 13 rfl rfl)
theorem dX2_loseGround_16 : decode cX2_loseGround 16 = .ok (.aload_n 1, 1) := dk_43 (dk_at dksX2_loseGround_0 16 rfl rfl)
theorem dX2_loseGround_17 : decode cX2_loseGround 17 = .ok (.iload_n 3, 1) := dk_29 (dk_at dksX2_loseGround_0 17 rfl rfl)
theorem dX2_loseGround_18 : decode cX2_loseGround 18 = .ok (.iaload, 1) := dk_46 (dk_at dksX2_loseGround_0 18 rfl rfl)
theorem dX2_loseGround_19 : decode cX2_loseGround 19 = .ok (.sipush 1000, 3) := dk_17 3 232 (dk_at dksX2_loseGround_0 19 rfl rfl)
theorem dX2_loseGround_22 : decode cX2_loseGround 22 = .ok (.if_icmp .lt 86, 3) := dk_161 0 86 (dk_at dksX2_loseGround_1 0 rfl rfl)
theorem dX2_loseGround_25 : decode cX2_loseGround 25 = .ok (.aload_n 0, 1) := dk_42 (dk_at dksX2_loseGround_1 3 rfl rfl)
theorem dX2_loseGround_26 : decode cX2_loseGround 26 = .ok (.getfield 27, 3) := dk_180 0 27 (dk_at dksX2_loseGround_1 4 rfl rfl)
theorem dX2_loseGround_29 : decode cX2_loseGround 29 = .ok (.iload_n 3, 1) := dk_29 (dk_at dksX2_loseGround_1 7 rfl rfl)
theorem dX2_loseGround_30 : decode cX2_loseGround 30 = .ok (.invokevirtual 238, 3) := dk_182 0 238 (dk_at dksX2_loseGround_1 8 rfl rfl)
theorem dX2_loseGround_33 : decode cX2_loseGround 33 = .ok (.checkcast 51, 3) := dk_192 0 51 (dk_at dksX2_loseGround_1 11 rfl rfl)
theorem dX2_loseGround_36 : decode cX2_loseGround 36 = .ok (.getfield 74, 3) := dk_180 0 74 (dk_at dksX2_loseGround_1 14 rfl rfl)
theorem dX2_loseGround_39 : decode cX2_loseGround 39 = .ok (.istore 4, 2) := dk_54 4 (dk_at dksX2_loseGround_1 17 rfl rfl)
theorem dX2_loseGround_41 : decode cX2_loseGround 41 = .ok (.aload_n 0, 1) := dk_42 (dk_at dksX2_loseGround_1 19 rfl rfl)
theorem dX2_loseGround_42 : decode cX2_loseGround 42 = .ok (.getfield 27, 3) := dk_180 0 27 (dk_at dksX2_loseGround_1 20 rfl rfl)
theorem dX2_loseGround_45 : decode cX2_loseGround 45 = .ok (.invokevirtual 31, 3) := dk_182 0 31 (dk_at dksX2_loseGround_2 0 rfl rfl)
theorem dX2_loseGround_48 : decode cX2_loseGround 48 = .ok (.astore 5, 2) := dk_58 5 (dk_at dksX2_loseGround_2 3 rfl rfl)
theorem dX2_loseGround_50 : decode cX2_loseGround 50 = .ok (.aload 5, 2) := dk_25 5 (dk_at dksX2_loseGround_2 5 rfl rfl)
theorem dX2_loseGround_52 : decode cX2_loseGround 52 = .ok (.invokeinterface 35 1, 5) := by decide +kernel
theorem dX2_loseGround_57 : decode cX2_loseGround 57 = .ok (.ifCond .eq 48, 3) := dk_153 0 48 (dk_at dksX2_loseGround_2 12 rfl rfl)
theorem dX2_loseGround_60 : decode cX2_loseGround 60 = .ok (.aload 5, 2) := dk_25 5 (dk_at dksX2_loseGround_2 15 rfl rfl)
theorem dX2_loseGround_62 : decode cX2_loseGround 62 = .ok (.invokeinterface 41 1, 5) := by decide +kernel
theorem dX2_loseGround_67 : decode cX2_loseGround 67 = .ok (.checkcast 51, 3) := dk_192 0 51 (dk_at dksX2_loseGround_3 0 rfl rfl)
theorem dX2_loseGround_70 : decode cX2_loseGround 70 = .ok (.astore 6, 2) := dk_58 6 (dk_at dksX2_loseGround_3 3 rfl rfl)
theorem dX2_loseGround_72 : decode cX2_loseGround 72 = .ok (.aload 6, 2) := dk_25 6 (dk_at dksX2_loseGround_3 5 rfl rfl)
theorem dX2_loseGround_74 : decode cX2_loseGround 74 = .ok (.getfield 183, 3) := dk_180 0 183 (dk_at dksX2_loseGround_3 7 rfl rfl)
theorem dX2_loseGround_77 : decode cX2_loseGround 77 = .ok (.iload 4, 2) := dk_21 4 (dk_at dksX2_loseGround_3 10 rfl rfl)
theorem dX2_loseGround_79 : decode cX2_loseGround 79 = .ok (.invokedynamic 241, 5) := by decide +kernel
theorem dX2_loseGround_84 : decode cX2_loseGround 84 = .ok (.invokestatic 245, 3) := dk_184 0 245 (dk_at dksX2_loseGround_3 17 rfl rfl)
theorem dX2_loseGround_87 : decode cX2_loseGround 87 = .ok (.aload 6, 2) := dk_25 6 (dk_at dksX2_loseGround_3 20 rfl rfl)
theorem dX2_loseGround_89 : decode cX2_loseGround 89 = .ok (.getfield 186, 3) := dk_180 0 186 (dk_at dksX2_loseGround_4 0 rfl rfl)
theorem dX2_loseGround_92 : decode cX2_loseGround 92 = .ok (.iload 4, 2) := dk_21 4 (dk_at dksX2_loseGround_4 3 rfl rfl)
theorem dX2_loseGround_94 : decode cX2_loseGround 94 = .ok (.invokedynamic 248, 5) := by decide +kernel
theorem dX2_loseGround_99 : decode cX2_loseGround 99 = .ok (.invokestatic 245, 3) := dk_184 0 245 (dk_at dksX2_loseGround_4 10 rfl rfl)
theorem dX2_loseGround_102 : decode cX2_loseGround 102 = .ok (.goto (-52), 3) := dk_167 255 204 (dk_at dksX2_loseGround_4 13 rfl rfl)
theorem dX2_loseGround_105 : decode cX2_loseGround 105 = .ok (.iinc 2 1, 3) := dk_132 2 1 (dk_at dksX2_loseGround_4 16 rfl rfl)
theorem dX2_loseGround_108 : decode cX2_loseGround 108 = .ok (.iinc 3 (-1), 3) := dk_132 3 255 (dk_at dksX2_loseGround_4 19 rfl rfl)
theorem dX2_loseGround_111 : decode cX2_loseGround 111 = .ok (.goto (-99), 3) := dk_167 255 157 (dk_at dksX2_loseGround_5 0 rfl rfl)
theorem dX2_loseGround_114 : decode cX2_loseGround 114 = .ok (.aload_n 0, 1) := dk_42 (dk_at dksX2_loseGround_5 3 rfl rfl)
theorem dX2_loseGround_115 : decode cX2_loseGround 115 = .ok (.dup, 1) := dk_89 (dk_at dksX2_loseGround_5 4 rfl rfl)
theorem dX2_loseGround_116 : decode cX2_loseGround 116 = .ok (.getfield 61, 3) := dk_180 0 61 (dk_at dksX2_loseGround_5 5 rfl rfl)
theorem dX2_loseGround_119 : decode cX2_loseGround 119 = .ok (.iload_n 2, 1) := dk_28 (dk_at dksX2_loseGround_5 8 rfl rfl)
theorem dX2_loseGround_120 : decode cX2_loseGround 120 = .ok (.iadd, 1) := dk_96 (dk_at dksX2_loseGround_5 9 rfl rfl)
theorem dX2_loseGround_121 : decode cX2_loseGround 121 = .ok (.putfield 61, 3) := dk_181 0 61 (dk_at dksX2_loseGround_5 10 rfl rfl)
theorem dX2_loseGround_124 : decode cX2_loseGround 124 = .ok (.iload_n 2, 1) := dk_28 (dk_at dksX2_loseGround_5 13 rfl rfl)
theorem dX2_loseGround_125 : decode cX2_loseGround 125 = .ok (.ireturn, 1) := dk_172 (dk_at dksX2_loseGround_5 14 rfl rfl)
abbrev cX2_lambda_loseGround_0 : ByteArray := prog_2_method_44_code
def yX2_lambda_loseGround_0 : MethodName := ⟨RX2, "lambda$loseGround$0", "(ILMatchmakerRules$Firing;)Z"⟩
def dkwX2_lambda_loseGround_0_0 : List UInt8 := [43, 26, 182, 1, 65, 172]
abbrev dktX2_lambda_loseGround_0_0 : List UInt8 := dkwX2_lambda_loseGround_0_0 ++ []
theorem dksX2_lambda_loseGround_0_0 : cX2_lambda_loseGround_0.data.toList.drop 0 = dktX2_lambda_loseGround_0_0 := by decide +kernel
theorem dX2_lambda_loseGround_0_0 : decode cX2_lambda_loseGround_0 0 = .ok (.aload_n 1, 1) := dk_43 (dk_at dksX2_lambda_loseGround_0_0 0 rfl rfl)
theorem dX2_lambda_loseGround_0_1 : decode cX2_lambda_loseGround_0 1 = .ok (.iload_n 0, 1) := dk_26 (dk_at dksX2_lambda_loseGround_0_0 1 rfl rfl)
theorem dX2_lambda_loseGround_0_2 : decode cX2_lambda_loseGround_0 2 = .ok (.invokevirtual 321, 3) := dk_182 1 65 (dk_at dksX2_lambda_loseGround_0_0 2 rfl rfl)
theorem dX2_lambda_loseGround_0_5 : decode cX2_lambda_loseGround_0 5 = .ok (.ireturn, 1) := dk_172 (dk_at dksX2_lambda_loseGround_0_0 5 rfl rfl)
abbrev cX2_lambda_loseGround_1 : ByteArray := prog_2_method_43_code
def yX2_lambda_loseGround_1 : MethodName := ⟨RX2, "lambda$loseGround$1", "(ILMatchmakerRules$Firing;)Z"⟩
def dkwX2_lambda_loseGround_1_0 : List UInt8 := [43, 26, 182, 1, 65, 172]
abbrev dktX2_lambda_loseGround_1_0 : List UInt8 := dkwX2_lambda_loseGround_1_0 ++ []
theorem dksX2_lambda_loseGround_1_0 : cX2_lambda_loseGround_1.data.toList.drop 0 = dktX2_lambda_loseGround_1_0 := by decide +kernel
theorem dX2_lambda_loseGround_1_0 : decode cX2_lambda_loseGround_1 0 = .ok (.aload_n 1, 1) := dk_43 (dk_at dksX2_lambda_loseGround_1_0 0 rfl rfl)
theorem dX2_lambda_loseGround_1_1 : decode cX2_lambda_loseGround_1 1 = .ok (.iload_n 0, 1) := dk_26 (dk_at dksX2_lambda_loseGround_1_0 1 rfl rfl)
theorem dX2_lambda_loseGround_1_2 : decode cX2_lambda_loseGround_1 2 = .ok (.invokevirtual 321, 3) := dk_182 1 65 (dk_at dksX2_lambda_loseGround_1_0 2 rfl rfl)
theorem dX2_lambda_loseGround_1_5 : decode cX2_lambda_loseGround_1 5 = .ok (.ireturn, 1) := dk_172 (dk_at dksX2_lambda_loseGround_1_0 5 rfl rfl)
abbrev cX2_tell : ByteArray := prog_2_method_26_code
def yX2_tell : MethodName := ⟨RX2, "tell", "(CIII)I"⟩
def dkwX2_tell_6 : List UInt8 := [25, 5, 180, 0, 74, 172]
abbrev dktX2_tell_6 : List UInt8 := dkwX2_tell_6 ++ []
def dkwX2_tell_5 : List UInt8 := [154, 0, 7, 4, 167, 0, 4, 3, 5, 25, 5, 180, 0, 74, 184, 0, 196, 25, 5, 4, 181, 0, 214]
abbrev dktX2_tell_5 : List UInt8 := dkwX2_tell_5 ++ dktX2_tell_6
def dkwX2_tell_4 : List UInt8 := [184, 0, 196, 42, 27, 28, 29, 21, 4, 134, 19, 1, 8, 110, 182, 0, 179, 58, 5, 25, 5, 180, 0, 214]
abbrev dktX2_tell_4 : List UInt8 := dkwX2_tell_4 ++ dktX2_tell_5
def dkwX2_tell_3 : List UInt8 := [199, 0, 42, 42, 180, 0, 27, 182, 0, 85, 16, 20, 162, 0, 7, 4, 167, 0, 4, 3, 4, 16, 20]
abbrev dktX2_tell_3 : List UInt8 := dkwX2_tell_3 ++ dktX2_tell_4
def dkwX2_tell_2 : List UInt8 := [21, 4, 133, 10, 20, 1, 6, 184, 0, 89, 184, 0, 208, 42, 27, 28, 29, 182, 0, 172, 58, 5, 25, 5]
abbrev dktX2_tell_2 : List UInt8 := dkwX2_tell_2 ++ dktX2_tell_3
def dkwX2_tell_1 : List UInt8 := [153, 0, 19, 29, 133, 9, 20, 1, 4, 184, 0, 89, 153, 0, 7, 4, 167, 0, 4, 3, 184, 0, 208]
abbrev dktX2_tell_1 : List UInt8 := dkwX2_tell_1 ++ dktX2_tell_2
def dkwX2_tell_0 : List UInt8 := [27, 133, 20, 1, 0, 20, 1, 2, 184, 0, 89, 153, 0, 31, 28, 133, 9, 20, 1, 4, 184, 0, 89]
abbrev dktX2_tell_0 : List UInt8 := dkwX2_tell_0 ++ dktX2_tell_1
theorem dksX2_tell_0 : cX2_tell.data.toList.drop 0 = dktX2_tell_0 := by decide +kernel
theorem dksX2_tell_1 : cX2_tell.data.toList.drop 23 = dktX2_tell_1 := dk_seg dksX2_tell_0 23 rfl rfl
theorem dksX2_tell_2 : cX2_tell.data.toList.drop 46 = dktX2_tell_2 := dk_seg dksX2_tell_1 23 rfl rfl
theorem dksX2_tell_3 : cX2_tell.data.toList.drop 70 = dktX2_tell_3 := dk_seg dksX2_tell_2 24 rfl rfl
theorem dksX2_tell_4 : cX2_tell.data.toList.drop 93 = dktX2_tell_4 := dk_seg dksX2_tell_3 23 rfl rfl
theorem dksX2_tell_5 : cX2_tell.data.toList.drop 117 = dktX2_tell_5 := dk_seg dksX2_tell_4 24 rfl rfl
theorem dksX2_tell_6 : cX2_tell.data.toList.drop 140 = dktX2_tell_6 := dk_seg dksX2_tell_5 23 rfl rfl
theorem dX2_tell_0 : decode cX2_tell 0 = .ok (.iload_n 1, 1) := dk_27 (dk_at dksX2_tell_0 0 rfl rfl)
theorem dX2_tell_1 : decode cX2_tell 1 = .ok (.i2l, 1) := dk_133 (dk_at dksX2_tell_0 1 rfl rfl)
theorem dX2_tell_2 : decode cX2_tell 2 = .ok (.ldc2_w 256, 3) := dk_20 1 0 (dk_at dksX2_tell_0 2 rfl rfl)
theorem dX2_tell_5 : decode cX2_tell 5 = .ok (.ldc2_w 258, 3) := dk_20 1 2 (dk_at dksX2_tell_0 5 rfl rfl)
theorem dX2_tell_8 : decode cX2_tell 8 = .ok (.invokestatic 89, 3) := dk_184 0 89 (dk_at dksX2_tell_0 8 rfl rfl)
theorem dX2_tell_11 : decode cX2_tell 11 = .ok (.ifCond .eq 31, 3) := dk_153 0 31 (dk_at dksX2_tell_0 11 rfl rfl)
theorem dX2_tell_14 : decode cX2_tell 14 = .ok (.iload_n 2, 1) := dk_28 (dk_at dksX2_tell_0 14 rfl rfl)
theorem dX2_tell_15 : decode cX2_tell 15 = .ok (.i2l, 1) := dk_133 (dk_at dksX2_tell_0 15 rfl rfl)
theorem dX2_tell_16 : decode cX2_tell 16 = .ok (.lconst 0, 1) := dk_9 (dk_at dksX2_tell_0 16 rfl rfl)
theorem dX2_tell_17 : decode cX2_tell 17 = .ok (.ldc2_w 260, 3) := dk_20 1 4 (dk_at dksX2_tell_0 17 rfl rfl)
theorem dX2_tell_20 : decode cX2_tell 20 = .ok (.invokestatic 89, 3) := dk_184 0 89 (dk_at dksX2_tell_0 20 rfl rfl)
theorem dX2_tell_23 : decode cX2_tell 23 = .ok (.ifCond .eq 19, 3) := dk_153 0 19 (dk_at dksX2_tell_1 0 rfl rfl)
theorem dX2_tell_26 : decode cX2_tell 26 = .ok (.iload_n 3, 1) := dk_29 (dk_at dksX2_tell_1 3 rfl rfl)
theorem dX2_tell_27 : decode cX2_tell 27 = .ok (.i2l, 1) := dk_133 (dk_at dksX2_tell_1 4 rfl rfl)
theorem dX2_tell_28 : decode cX2_tell 28 = .ok (.lconst 0, 1) := dk_9 (dk_at dksX2_tell_1 5 rfl rfl)
theorem dX2_tell_29 : decode cX2_tell 29 = .ok (.ldc2_w 260, 3) := dk_20 1 4 (dk_at dksX2_tell_1 6 rfl rfl)
theorem dX2_tell_32 : decode cX2_tell 32 = .ok (.invokestatic 89, 3) := dk_184 0 89 (dk_at dksX2_tell_1 9 rfl rfl)
theorem dX2_tell_35 : decode cX2_tell 35 = .ok (.ifCond .eq 7, 3) := dk_153 0 7 (dk_at dksX2_tell_1 12 rfl rfl)
theorem dX2_tell_38 : decode cX2_tell 38 = .ok (.iconst 1, 1) := dk_4 (dk_at dksX2_tell_1 15 rfl rfl)
theorem dX2_tell_39 : decode cX2_tell 39 = .ok (.goto 4, 3) := dk_167 0 4 (dk_at dksX2_tell_1 16 rfl rfl)
theorem dX2_tell_42 : decode cX2_tell 42 = .ok (.iconst 0, 1) := dk_3 (dk_at dksX2_tell_1 19 rfl rfl)
theorem dX2_tell_43 : decode cX2_tell 43 = .ok (.invokestatic 208, 3) := dk_184 0 208 (dk_at dksX2_tell_1 20 rfl rfl)
theorem dX2_tell_46 : decode cX2_tell 46 = .ok (.iload 4, 2) := dk_21 4 (dk_at dksX2_tell_2 0 rfl rfl)
theorem dX2_tell_48 : decode cX2_tell 48 = .ok (.i2l, 1) := dk_133 (dk_at dksX2_tell_2 2 rfl rfl)
theorem dX2_tell_49 : decode cX2_tell 49 = .ok (.lconst 1, 1) := dk_10 (dk_at dksX2_tell_2 3 rfl rfl)
theorem dX2_tell_50 : decode cX2_tell 50 = .ok (.ldc2_w 262, 3) := dk_20 1 6 (dk_at dksX2_tell_2 4 rfl rfl)
theorem dX2_tell_53 : decode cX2_tell 53 = .ok (.invokestatic 89, 3) := dk_184 0 89 (dk_at dksX2_tell_2 7 rfl rfl)
theorem dX2_tell_56 : decode cX2_tell 56 = .ok (.invokestatic 208, 3) := dk_184 0 208 (dk_at dksX2_tell_2 10 rfl rfl)
theorem dX2_tell_59 : decode cX2_tell 59 = .ok (.aload_n 0, 1) := dk_42 (dk_at dksX2_tell_2 13 rfl rfl)
theorem dX2_tell_60 : decode cX2_tell 60 = .ok (.iload_n 1, 1) := dk_27 (dk_at dksX2_tell_2 14 rfl rfl)
theorem dX2_tell_61 : decode cX2_tell 61 = .ok (.iload_n 2, 1) := dk_28 (dk_at dksX2_tell_2 15 rfl rfl)
theorem dX2_tell_62 : decode cX2_tell 62 = .ok (.iload_n 3, 1) := dk_29 (dk_at dksX2_tell_2 16 rfl rfl)
theorem dX2_tell_63 : decode cX2_tell 63 = .ok (.invokevirtual 172, 3) := dk_182 0 172 (dk_at dksX2_tell_2 17 rfl rfl)
theorem dX2_tell_66 : decode cX2_tell 66 = .ok (.astore 5, 2) := dk_58 5 (dk_at dksX2_tell_2 20 rfl rfl)
theorem dX2_tell_68 : decode cX2_tell 68 = .ok (.aload 5, 2) := dk_25 5 (dk_at dksX2_tell_2 22 rfl rfl)
theorem dX2_tell_70 : decode cX2_tell 70 = .ok (.ifnonnull 42, 3) := dk_199 0 42 (dk_at dksX2_tell_3 0 rfl rfl)
theorem dX2_tell_73 : decode cX2_tell 73 = .ok (.aload_n 0, 1) := dk_42 (dk_at dksX2_tell_3 3 rfl rfl)
theorem dX2_tell_74 : decode cX2_tell 74 = .ok (.getfield 27, 3) := dk_180 0 27 (dk_at dksX2_tell_3 4 rfl rfl)
theorem dX2_tell_77 : decode cX2_tell 77 = .ok (.invokevirtual 85, 3) := dk_182 0 85 (dk_at dksX2_tell_3 7 rfl rfl)
theorem dX2_tell_80 : decode cX2_tell 80 = .ok (.bipush 20, 2) := dk_16 20 (dk_at dksX2_tell_3 10 rfl rfl)
theorem dX2_tell_82 : decode cX2_tell 82 = .ok (.if_icmp .ge 7, 3) := dk_162 0 7 (dk_at dksX2_tell_3 12 rfl rfl)
theorem dX2_tell_85 : decode cX2_tell 85 = .ok (.iconst 1, 1) := dk_4 (dk_at dksX2_tell_3 15 rfl rfl)
theorem dX2_tell_86 : decode cX2_tell 86 = .ok (.goto 4, 3) := dk_167 0 4 (dk_at dksX2_tell_3 16 rfl rfl)
theorem dX2_tell_89 : decode cX2_tell 89 = .ok (.iconst 0, 1) := dk_3 (dk_at dksX2_tell_3 19 rfl rfl)
theorem dX2_tell_90 : decode cX2_tell 90 = .ok (.iconst 1, 1) := dk_4 (dk_at dksX2_tell_3 20 rfl rfl)
theorem dX2_tell_91 : decode cX2_tell 91 = .ok (.bipush 20, 2) := dk_16 20 (dk_at dksX2_tell_3 21 rfl rfl)
theorem dX2_tell_93 : decode cX2_tell 93 = .ok (.invokestatic 196, 3) := dk_184 0 196 (dk_at dksX2_tell_4 0 rfl rfl)
theorem dX2_tell_96 : decode cX2_tell 96 = .ok (.aload_n 0, 1) := dk_42 (dk_at dksX2_tell_4 3 rfl rfl)
theorem dX2_tell_97 : decode cX2_tell 97 = .ok (.iload_n 1, 1) := dk_27 (dk_at dksX2_tell_4 4 rfl rfl)
theorem dX2_tell_98 : decode cX2_tell 98 = .ok (.iload_n 2, 1) := dk_28 (dk_at dksX2_tell_4 5 rfl rfl)
theorem dX2_tell_99 : decode cX2_tell 99 = .ok (.iload_n 3, 1) := dk_29 (dk_at dksX2_tell_4 6 rfl rfl)
theorem dX2_tell_100 : decode cX2_tell 100 = .ok (.iload 4, 2) := dk_21 4 (dk_at dksX2_tell_4 7 rfl rfl)
theorem dX2_tell_102 : decode cX2_tell 102 = .ok (.i2f, 1) := dk_134 (dk_at dksX2_tell_4 9 rfl rfl)
theorem dX2_tell_103 : decode cX2_tell 103 = .ok (.ldc_w 264, 3) := dk_19 1 8 (dk_at dksX2_tell_4 10 rfl rfl)
theorem dX2_tell_106 : decode cX2_tell 106 = .ok (.fdiv, 1) := dk_110 (dk_at dksX2_tell_4 13 rfl rfl)
theorem dX2_tell_107 : decode cX2_tell 107 = .ok (.invokevirtual 179, 3) := dk_182 0 179 (dk_at dksX2_tell_4 14 rfl rfl)
theorem dX2_tell_110 : decode cX2_tell 110 = .ok (.astore 5, 2) := dk_58 5 (dk_at dksX2_tell_4 17 rfl rfl)
theorem dX2_tell_112 : decode cX2_tell 112 = .ok (.aload 5, 2) := dk_25 5 (dk_at dksX2_tell_4 19 rfl rfl)
theorem dX2_tell_114 : decode cX2_tell 114 = .ok (.getfield 214, 3) := dk_180 0 214 (dk_at dksX2_tell_4 21 rfl rfl)
theorem dX2_tell_117 : decode cX2_tell 117 = .ok (.ifCond .ne 7, 3) := dk_154 0 7 (dk_at dksX2_tell_5 0 rfl rfl)
theorem dX2_tell_120 : decode cX2_tell 120 = .ok (.iconst 1, 1) := dk_4 (dk_at dksX2_tell_5 3 rfl rfl)
theorem dX2_tell_121 : decode cX2_tell 121 = .ok (.goto 4, 3) := dk_167 0 4 (dk_at dksX2_tell_5 4 rfl rfl)
theorem dX2_tell_124 : decode cX2_tell 124 = .ok (.iconst 0, 1) := dk_3 (dk_at dksX2_tell_5 7 rfl rfl)
theorem dX2_tell_125 : decode cX2_tell 125 = .ok (.iconst 2, 1) := dk_5 (dk_at dksX2_tell_5 8 rfl rfl)
theorem dX2_tell_126 : decode cX2_tell 126 = .ok (.aload 5, 2) := dk_25 5 (dk_at dksX2_tell_5 9 rfl rfl)
theorem dX2_tell_128 : decode cX2_tell 128 = .ok (.getfield 74, 3) := dk_180 0 74 (dk_at dksX2_tell_5 11 rfl rfl)
theorem dX2_tell_131 : decode cX2_tell 131 = .ok (.invokestatic 196, 3) := dk_184 0 196 (dk_at dksX2_tell_5 14 rfl rfl)
theorem dX2_tell_134 : decode cX2_tell 134 = .ok (.aload 5, 2) := dk_25 5 (dk_at dksX2_tell_5 17 rfl rfl)
theorem dX2_tell_136 : decode cX2_tell 136 = .ok (.iconst 1, 1) := dk_4 (dk_at dksX2_tell_5 19 rfl rfl)
theorem dX2_tell_137 : decode cX2_tell 137 = .ok (.putfield 214, 3) := dk_181 0 214 (dk_at dksX2_tell_5 20 rfl rfl)
theorem dX2_tell_140 : decode cX2_tell 140 = .ok (.aload 5, 2) := dk_25 5 (dk_at dksX2_tell_6 0 rfl rfl)
theorem dX2_tell_142 : decode cX2_tell 142 = .ok (.getfield 74, 3) := dk_180 0 74 (dk_at dksX2_tell_6 2 rfl rfl)
theorem dX2_tell_145 : decode cX2_tell 145 = .ok (.ireturn, 1) := dk_172 (dk_at dksX2_tell_6 5 rfl rfl)
abbrev cX2_come : ByteArray := prog_2_method_15_code
def yX2_come : MethodName := ⟨RX2, "come", "(CIIF)LMatchmakerRules$Fact;"⟩
def dkwX2_come_1 : List UInt8 := [180, 0, 57, 4, 96, 181, 0, 57, 42, 180, 0, 27, 25, 5, 182, 0, 47, 54, 6, 25, 5, 176]
abbrev dktX2_come_1 : List UInt8 := dkwX2_come_1 ++ []
def dkwX2_come_0 : List UInt8 := [187, 0, 51, 89, 42, 180, 0, 57, 27, 28, 29, 23, 4, 42, 180, 0, 64, 183, 0, 189, 58, 5, 42, 89]
abbrev dktX2_come_0 : List UInt8 := dkwX2_come_0 ++ dktX2_come_1
theorem dksX2_come_0 : cX2_come.data.toList.drop 0 = dktX2_come_0 := by decide +kernel
theorem dksX2_come_1 : cX2_come.data.toList.drop 24 = dktX2_come_1 := dk_seg dksX2_come_0 24 rfl rfl
theorem dX2_come_0 : decode cX2_come 0 = .ok (.new 51, 3) := dk_187 0 51 (dk_at dksX2_come_0 0 rfl rfl)
theorem dX2_come_3 : decode cX2_come 3 = .ok (.dup, 1) := dk_89 (dk_at dksX2_come_0 3 rfl rfl)
theorem dX2_come_4 : decode cX2_come 4 = .ok (.aload_n 0, 1) := dk_42 (dk_at dksX2_come_0 4 rfl rfl)
theorem dX2_come_5 : decode cX2_come 5 = .ok (.getfield 57, 3) := dk_180 0 57 (dk_at dksX2_come_0 5 rfl rfl)
theorem dX2_come_8 : decode cX2_come 8 = .ok (.iload_n 1, 1) := dk_27 (dk_at dksX2_come_0 8 rfl rfl)
theorem dX2_come_9 : decode cX2_come 9 = .ok (.iload_n 2, 1) := dk_28 (dk_at dksX2_come_0 9 rfl rfl)
theorem dX2_come_10 : decode cX2_come 10 = .ok (.iload_n 3, 1) := dk_29 (dk_at dksX2_come_0 10 rfl rfl)
theorem dX2_come_11 : decode cX2_come 11 = .ok (.fload 4, 2) := dk_23 4 (dk_at dksX2_come_0 11 rfl rfl)
theorem dX2_come_13 : decode cX2_come 13 = .ok (.aload_n 0, 1) := dk_42 (dk_at dksX2_come_0 13 rfl rfl)
theorem dX2_come_14 : decode cX2_come 14 = .ok (.getfield 64, 3) := dk_180 0 64 (dk_at dksX2_come_0 14 rfl rfl)
theorem dX2_come_17 : decode cX2_come 17 = .ok (.invokespecial 189, 3) := dk_183 0 189 (dk_at dksX2_come_0 17 rfl rfl)
theorem dX2_come_20 : decode cX2_come 20 = .ok (.astore 5, 2) := dk_58 5 (dk_at dksX2_come_0 20 rfl rfl)
theorem dX2_come_22 : decode cX2_come 22 = .ok (.aload_n 0, 1) := dk_42 (dk_at dksX2_come_0 22 rfl rfl)
theorem dX2_come_23 : decode cX2_come 23 = .ok (.dup, 1) := dk_89 (dk_at dksX2_come_0 23 rfl rfl)
theorem dX2_come_24 : decode cX2_come 24 = .ok (.getfield 57, 3) := dk_180 0 57 (dk_at dksX2_come_1 0 rfl rfl)
theorem dX2_come_27 : decode cX2_come 27 = .ok (.iconst 1, 1) := dk_4 (dk_at dksX2_come_1 3 rfl rfl)
theorem dX2_come_28 : decode cX2_come 28 = .ok (.iadd, 1) := dk_96 (dk_at dksX2_come_1 4 rfl rfl)
theorem dX2_come_29 : decode cX2_come 29 = .ok (.putfield 57, 3) := dk_181 0 57 (dk_at dksX2_come_1 5 rfl rfl)
theorem dX2_come_32 : decode cX2_come 32 = .ok (.aload_n 0, 1) := dk_42 (dk_at dksX2_come_1 8 rfl rfl)
theorem dX2_come_33 : decode cX2_come 33 = .ok (.getfield 27, 3) := dk_180 0 27 (dk_at dksX2_come_1 9 rfl rfl)
theorem dX2_come_36 : decode cX2_come 36 = .ok (.aload 5, 2) := dk_25 5 (dk_at dksX2_come_1 12 rfl rfl)
theorem dX2_come_38 : decode cX2_come 38 = .ok (.invokevirtual 47, 3) := dk_182 0 47 (dk_at dksX2_come_1 14 rfl rfl)
theorem dX2_come_41 : decode cX2_come 41 = .ok (.istore 6, 2) := dk_54 6 (dk_at dksX2_come_1 17 rfl rfl)
theorem dX2_come_43 : decode cX2_come 43 = .ok (.aload 5, 2) := dk_25 5 (dk_at dksX2_come_1 19 rfl rfl)
theorem dX2_come_45 : decode cX2_come 45 = .ok (.areturn, 1) := dk_176 (dk_at dksX2_come_1 21 rfl rfl)
abbrev cX2_untell : ByteArray := prog_2_method_27_code
def yX2_untell : MethodName := ⟨RX2, "untell", "(I)I"⟩
def dkwX2_untell_1 : List UInt8 := [7, 44, 180, 0, 186, 182, 0, 85, 184, 0, 196, 44, 3, 181, 0, 214, 42, 182, 0, 253, 172]
abbrev dktX2_untell_1 : List UInt8 := dkwX2_untell_1 ++ []
def dkwX2_untell_0 : List UInt8 := [42, 27, 182, 0, 77, 77, 44, 198, 0, 7, 4, 167, 0, 4, 3, 6, 27, 184, 0, 196, 44, 180, 0, 214]
abbrev dktX2_untell_0 : List UInt8 := dkwX2_untell_0 ++ dktX2_untell_1
theorem dksX2_untell_0 : cX2_untell.data.toList.drop 0 = dktX2_untell_0 := by decide +kernel
theorem dksX2_untell_1 : cX2_untell.data.toList.drop 24 = dktX2_untell_1 := dk_seg dksX2_untell_0 24 rfl rfl
theorem dX2_untell_0 : decode cX2_untell 0 = .ok (.aload_n 0, 1) := dk_42 (dk_at dksX2_untell_0 0 rfl rfl)
theorem dX2_untell_1 : decode cX2_untell 1 = .ok (.iload_n 1, 1) := dk_27 (dk_at dksX2_untell_0 1 rfl rfl)
theorem dX2_untell_2 : decode cX2_untell 2 = .ok (.invokevirtual 77, 3) := dk_182 0 77 (dk_at dksX2_untell_0 2 rfl rfl)
theorem dX2_untell_5 : decode cX2_untell 5 = .ok (.astore_n 2, 1) := dk_77 (dk_at dksX2_untell_0 5 rfl rfl)
theorem dX2_untell_6 : decode cX2_untell 6 = .ok (.aload_n 2, 1) := dk_44 (dk_at dksX2_untell_0 6 rfl rfl)
theorem dX2_untell_7 : decode cX2_untell 7 = .ok (.ifnull 7, 3) := dk_198 0 7 (dk_at dksX2_untell_0 7 rfl rfl)
theorem dX2_untell_10 : decode cX2_untell 10 = .ok (.iconst 1, 1) := dk_4 (dk_at dksX2_untell_0 10 rfl rfl)
theorem dX2_untell_11 : decode cX2_untell 11 = .ok (.goto 4, 3) := dk_167 0 4 (dk_at dksX2_untell_0 11 rfl rfl)
theorem dX2_untell_14 : decode cX2_untell 14 = .ok (.iconst 0, 1) := dk_3 (dk_at dksX2_untell_0 14 rfl rfl)
theorem dX2_untell_15 : decode cX2_untell 15 = .ok (.iconst 3, 1) := dk_6 (dk_at dksX2_untell_0 15 rfl rfl)
theorem dX2_untell_16 : decode cX2_untell 16 = .ok (.iload_n 1, 1) := dk_27 (dk_at dksX2_untell_0 16 rfl rfl)
theorem dX2_untell_17 : decode cX2_untell 17 = .ok (.invokestatic 196, 3) := dk_184 0 196 (dk_at dksX2_untell_0 17 rfl rfl)
theorem dX2_untell_20 : decode cX2_untell 20 = .ok (.aload_n 2, 1) := dk_44 (dk_at dksX2_untell_0 20 rfl rfl)
theorem dX2_untell_21 : decode cX2_untell 21 = .ok (.getfield 214, 3) := dk_180 0 214 (dk_at dksX2_untell_0 21 rfl rfl)
theorem dX2_untell_24 : decode cX2_untell 24 = .ok (.iconst 4, 1) := dk_7 (dk_at dksX2_untell_1 0 rfl rfl)
theorem dX2_untell_25 : decode cX2_untell 25 = .ok (.aload_n 2, 1) := dk_44 (dk_at dksX2_untell_1 1 rfl rfl)
theorem dX2_untell_26 : decode cX2_untell 26 = .ok (.getfield 186, 3) := dk_180 0 186 (dk_at dksX2_untell_1 2 rfl rfl)
theorem dX2_untell_29 : decode cX2_untell 29 = .ok (.invokevirtual 85, 3) := dk_182 0 85 (dk_at dksX2_untell_1 5 rfl rfl)
theorem dX2_untell_32 : decode cX2_untell 32 = .ok (.invokestatic 196, 3) := dk_184 0 196 (dk_at dksX2_untell_1 8 rfl rfl)
theorem dX2_untell_35 : decode cX2_untell 35 = .ok (.aload_n 2, 1) := dk_44 (dk_at dksX2_untell_1 11 rfl rfl)
theorem dX2_untell_36 : decode cX2_untell 36 = .ok (.iconst 0, 1) := dk_3 (dk_at dksX2_untell_1 12 rfl rfl)
theorem dX2_untell_37 : decode cX2_untell 37 = .ok (.putfield 214, 3) := dk_181 0 214 (dk_at dksX2_untell_1 13 rfl rfl)
theorem dX2_untell_40 : decode cX2_untell 40 = .ok (.aload_n 0, 1) := dk_42 (dk_at dksX2_untell_1 16 rfl rfl)
theorem dX2_untell_41 : decode cX2_untell 41 = .ok (.invokevirtual 253, 3) := dk_182 0 253 (dk_at dksX2_untell_1 17 rfl rfl)
theorem dX2_untell_44 : decode cX2_untell 44 = .ok (.ireturn, 1) := dk_172 (dk_at dksX2_untell_1 20 rfl rfl)
abbrev cX2_run : ByteArray := prog_2_method_17_code
def yX2_run : MethodName := ⟨RX2, "run", "(I)I"⟩
def dkwX2_run_2 : List UInt8 := [167, 0, 7, 42, 182, 0, 192, 78, 167, 255, 228, 28, 172]
abbrev dktX2_run_2 : List UInt8 := dkwX2_run_2 ++ []
def dkwX2_run_1 : List UInt8 := [182, 0, 192, 78, 45, 198, 0, 30, 42, 45, 182, 0, 202, 54, 4, 132, 2, 1, 28, 27, 160, 0, 7, 1]
abbrev dktX2_run_1 : List UInt8 := dkwX2_run_1 ++ dktX2_run_2
def dkwX2_run_0 : List UInt8 := [27, 133, 9, 20, 0, 206, 184, 0, 89, 184, 0, 208, 3, 61, 27, 154, 0, 7, 1, 167, 0, 7, 42]
abbrev dktX2_run_0 : List UInt8 := dkwX2_run_0 ++ dktX2_run_1
theorem dksX2_run_0 : cX2_run.data.toList.drop 0 = dktX2_run_0 := by decide +kernel
theorem dksX2_run_1 : cX2_run.data.toList.drop 23 = dktX2_run_1 := dk_seg dksX2_run_0 23 rfl rfl
theorem dksX2_run_2 : cX2_run.data.toList.drop 47 = dktX2_run_2 := dk_seg dksX2_run_1 24 rfl rfl
theorem dX2_run_0 : decode cX2_run 0 = .ok (.iload_n 1, 1) := dk_27 (dk_at dksX2_run_0 0 rfl rfl)
theorem dX2_run_1 : decode cX2_run 1 = .ok (.i2l, 1) := dk_133 (dk_at dksX2_run_0 1 rfl rfl)
theorem dX2_run_2 : decode cX2_run 2 = .ok (.lconst 0, 1) := dk_9 (dk_at dksX2_run_0 2 rfl rfl)
theorem dX2_run_3 : decode cX2_run 3 = .ok (.ldc2_w 206, 3) := dk_20 0 206 (dk_at dksX2_run_0 3 rfl rfl)
theorem dX2_run_6 : decode cX2_run 6 = .ok (.invokestatic 89, 3) := dk_184 0 89 (dk_at dksX2_run_0 6 rfl rfl)
theorem dX2_run_9 : decode cX2_run 9 = .ok (.invokestatic 208, 3) := dk_184 0 208 (dk_at dksX2_run_0 9 rfl rfl)
theorem dX2_run_12 : decode cX2_run 12 = .ok (.iconst 0, 1) := dk_3 (dk_at dksX2_run_0 12 rfl rfl)
theorem dX2_run_13 : decode cX2_run 13 = .ok (.istore_n 2, 1) := dk_61 (dk_at dksX2_run_0 13 rfl rfl)
theorem dX2_run_14 : decode cX2_run 14 = .ok (.iload_n 1, 1) := dk_27 (dk_at dksX2_run_0 14 rfl rfl)
theorem dX2_run_15 : decode cX2_run 15 = .ok (.ifCond .ne 7, 3) := dk_154 0 7 (dk_at dksX2_run_0 15 rfl rfl)
theorem dX2_run_18 : decode cX2_run 18 = .ok (.aconst_null, 1) := dk_1 (dk_at dksX2_run_0 18 rfl rfl)
theorem dX2_run_19 : decode cX2_run 19 = .ok (.goto 7, 3) := dk_167 0 7 (dk_at dksX2_run_0 19 rfl rfl)
theorem dX2_run_22 : decode cX2_run 22 = .ok (.aload_n 0, 1) := dk_42 (dk_at dksX2_run_0 22 rfl rfl)
theorem dX2_run_23 : decode cX2_run 23 = .ok (.invokevirtual 192, 3) := dk_182 0 192 (dk_at dksX2_run_1 0 rfl rfl)
theorem dX2_run_26 : decode cX2_run 26 = .ok (.astore_n 3, 1) := dk_78 (dk_at dksX2_run_1 3 rfl rfl)
theorem dX2_run_27 : decode cX2_run 27 = .ok (.aload_n 3, 1) := dk_45 (dk_at dksX2_run_1 4 rfl rfl)
theorem dX2_run_28 : decode cX2_run 28 = .ok (.ifnull 30, 3) := dk_198 0 30 (dk_at dksX2_run_1 5 rfl rfl)
theorem dX2_run_31 : decode cX2_run 31 = .ok (.aload_n 0, 1) := dk_42 (dk_at dksX2_run_1 8 rfl rfl)
theorem dX2_run_32 : decode cX2_run 32 = .ok (.aload_n 3, 1) := dk_45 (dk_at dksX2_run_1 9 rfl rfl)
theorem dX2_run_33 : decode cX2_run 33 = .ok (.invokevirtual 202, 3) := dk_182 0 202 (dk_at dksX2_run_1 10 rfl rfl)
theorem dX2_run_36 : decode cX2_run 36 = .ok (.istore 4, 2) := dk_54 4 (dk_at dksX2_run_1 13 rfl rfl)
theorem dX2_run_38 : decode cX2_run 38 = .ok (.iinc 2 1, 3) := dk_132 2 1 (dk_at dksX2_run_1 15 rfl rfl)
theorem dX2_run_41 : decode cX2_run 41 = .ok (.iload_n 2, 1) := dk_28 (dk_at dksX2_run_1 18 rfl rfl)
theorem dX2_run_42 : decode cX2_run 42 = .ok (.iload_n 1, 1) := dk_27 (dk_at dksX2_run_1 19 rfl rfl)
theorem dX2_run_43 : decode cX2_run 43 = .ok (.if_icmp .ne 7, 3) := dk_160 0 7 (dk_at dksX2_run_1 20 rfl rfl)
theorem dX2_run_46 : decode cX2_run 46 = .ok (.aconst_null, 1) := dk_1 (dk_at dksX2_run_1 23 rfl rfl)
theorem dX2_run_47 : decode cX2_run 47 = .ok (.goto 7, 3) := dk_167 0 7 (dk_at dksX2_run_2 0 rfl rfl)
theorem dX2_run_50 : decode cX2_run 50 = .ok (.aload_n 0, 1) := dk_42 (dk_at dksX2_run_2 3 rfl rfl)
theorem dX2_run_51 : decode cX2_run 51 = .ok (.invokevirtual 192, 3) := dk_182 0 192 (dk_at dksX2_run_2 4 rfl rfl)
theorem dX2_run_54 : decode cX2_run 54 = .ok (.astore_n 3, 1) := dk_78 (dk_at dksX2_run_2 7 rfl rfl)
theorem dX2_run_55 : decode cX2_run 55 = .ok (.goto (-28), 3) := dk_167 255 228 (dk_at dksX2_run_2 8 rfl rfl)
theorem dX2_run_58 : decode cX2_run 58 = .ok (.iload_n 2, 1) := dk_28 (dk_at dksX2_run_2 11 rfl rfl)
theorem dX2_run_59 : decode cX2_run 59 = .ok (.ireturn, 1) := dk_172 (dk_at dksX2_run_2 12 rfl rfl)
abbrev cX2_foremost : ByteArray := prog_2_method_11_code
def yX2_foremost : MethodName := ⟨RX2, "foremost", "()LMatchmakerRules$Firing;"⟩
def dkwX2_foremost_0 : List UInt8 := [187, 0, 113, 89, 183, 0, 115, 76, 42, 1, 43, 182, 0, 116, 153, 0, 7, 43, 167, 0, 4, 1, 176]
abbrev dktX2_foremost_0 : List UInt8 := dkwX2_foremost_0 ++ []
theorem dksX2_foremost_0 : cX2_foremost.data.toList.drop 0 = dktX2_foremost_0 := by decide +kernel
theorem dX2_foremost_0 : decode cX2_foremost 0 = .ok (.new 113, 3) := dk_187 0 113 (dk_at dksX2_foremost_0 0 rfl rfl)
theorem dX2_foremost_3 : decode cX2_foremost 3 = .ok (.dup, 1) := dk_89 (dk_at dksX2_foremost_0 3 rfl rfl)
theorem dX2_foremost_4 : decode cX2_foremost 4 = .ok (.invokespecial 115, 3) := dk_183 0 115 (dk_at dksX2_foremost_0 4 rfl rfl)
theorem dX2_foremost_7 : decode cX2_foremost 7 = .ok (.astore_n 1, 1) := dk_76 (dk_at dksX2_foremost_0 7 rfl rfl)
theorem dX2_foremost_8 : decode cX2_foremost 8 = .ok (.aload_n 0, 1) := dk_42 (dk_at dksX2_foremost_0 8 rfl rfl)
theorem dX2_foremost_9 : decode cX2_foremost 9 = .ok (.aconst_null, 1) := dk_1 (dk_at dksX2_foremost_0 9 rfl rfl)
theorem dX2_foremost_10 : decode cX2_foremost 10 = .ok (.aload_n 1, 1) := dk_43 (dk_at dksX2_foremost_0 10 rfl rfl)
theorem dX2_foremost_11 : decode cX2_foremost 11 = .ok (.invokevirtual 116, 3) := dk_182 0 116 (dk_at dksX2_foremost_0 11 rfl rfl)
theorem dX2_foremost_14 : decode cX2_foremost 14 = .ok (.ifCond .eq 7, 3) := dk_153 0 7 (dk_at dksX2_foremost_0 14 rfl rfl)
theorem dX2_foremost_17 : decode cX2_foremost 17 = .ok (.aload_n 1, 1) := dk_43 (dk_at dksX2_foremost_0 17 rfl rfl)
theorem dX2_foremost_18 : decode cX2_foremost 18 = .ok (.goto 4, 3) := dk_167 0 4 (dk_at dksX2_foremost_0 18 rfl rfl)
theorem dX2_foremost_21 : decode cX2_foremost 21 = .ok (.aconst_null, 1) := dk_1 (dk_at dksX2_foremost_0 21 rfl rfl)
theorem dX2_foremost_22 : decode cX2_foremost 22 = .ok (.areturn, 1) := dk_176 (dk_at dksX2_foremost_0 22 rfl rfl)
abbrev cX2_isNext : ByteArray := prog_2_method_13_code
def yX2_isNext : MethodName := ⟨RX2, "isNext", "(LMatchmakerRules$Firing;LMatchmakerRules$Firing;)Z"⟩
def dkwX2_isNext_5 : List UInt8 := [25, 5, 180, 0, 135, 182, 0, 138, 4, 62, 167, 255, 169, 132, 4, 1, 167, 255, 130, 29, 172]
abbrev dktX2_isNext_5 : List UInt8 := dkwX2_isNext_5 ++ []
def dkwX2_isNext_4 : List UInt8 := [25, 5, 44, 182, 0, 120, 153, 0, 27, 44, 25, 5, 180, 0, 127, 25, 5, 180, 0, 131, 180, 0, 74]
abbrev dktX2_isNext_4 : List UInt8 := dkwX2_isNext_4 ++ dktX2_isNext_5
def dkwX2_isNext_3 : List UInt8 := [167, 0, 4, 3, 54, 6, 21, 6, 154, 0, 48, 25, 5, 182, 0, 107, 153, 0, 40, 29, 153, 0, 12]
abbrev dktX2_isNext_3 : List UInt8 := dkwX2_isNext_3 ++ dktX2_isNext_4
def dkwX2_isNext_2 : List UInt8 := [43, 198, 0, 25, 25, 5, 43, 182, 0, 120, 154, 0, 12, 25, 5, 43, 182, 0, 124, 153, 0, 7, 4]
abbrev dktX2_isNext_2 : List UInt8 := dkwX2_isNext_2 ++ dktX2_isNext_3
def dkwX2_isNext_1 : List UInt8 := [180, 0, 23, 21, 4, 182, 0, 96, 192, 0, 45, 182, 0, 100, 58, 5, 25, 5, 182, 0, 104, 153, 0, 85]
abbrev dktX2_isNext_1 : List UInt8 := dkwX2_isNext_1 ++ dktX2_isNext_2
def dkwX2_isNext_0 : List UInt8 := [3, 62, 3, 54, 4, 21, 4, 42, 180, 0, 23, 182, 0, 85, 162, 0, 120, 42, 180, 0, 14, 42]
abbrev dktX2_isNext_0 : List UInt8 := dkwX2_isNext_0 ++ dktX2_isNext_1
theorem dksX2_isNext_0 : cX2_isNext.data.toList.drop 0 = dktX2_isNext_0 := by decide +kernel
theorem dksX2_isNext_1 : cX2_isNext.data.toList.drop 22 = dktX2_isNext_1 := dk_seg dksX2_isNext_0 22 rfl rfl
theorem dksX2_isNext_2 : cX2_isNext.data.toList.drop 46 = dktX2_isNext_2 := dk_seg dksX2_isNext_1 24 rfl rfl
theorem dksX2_isNext_3 : cX2_isNext.data.toList.drop 69 = dktX2_isNext_3 := dk_seg dksX2_isNext_2 23 rfl rfl
theorem dksX2_isNext_4 : cX2_isNext.data.toList.drop 92 = dktX2_isNext_4 := dk_seg dksX2_isNext_3 23 rfl rfl
theorem dksX2_isNext_5 : cX2_isNext.data.toList.drop 115 = dktX2_isNext_5 := dk_seg dksX2_isNext_4 23 rfl rfl
theorem dX2_isNext_0 : decode cX2_isNext 0 = .ok (.iconst 0, 1) := dk_3 (dk_at dksX2_isNext_0 0 rfl rfl)
theorem dX2_isNext_1 : decode cX2_isNext 1 = .ok (.istore_n 3, 1) := dk_62 (dk_at dksX2_isNext_0 1 rfl rfl)
theorem dX2_isNext_2 : decode cX2_isNext 2 = .ok (.iconst 0, 1) := dk_3 (dk_at dksX2_isNext_0 2 rfl rfl)
theorem dX2_isNext_3 : decode cX2_isNext 3 = .ok (.istore 4, 2) := dk_54 4 (dk_at dksX2_isNext_0 3 rfl rfl)
theorem dX2_isNext_5 : decode cX2_isNext 5 = .ok (.iload 4, 2) := dk_21 4 (dk_at dksX2_isNext_0 5 rfl rfl)
theorem dX2_isNext_7 : decode cX2_isNext 7 = .ok (.aload_n 0, 1) := dk_42 (dk_at dksX2_isNext_0 7 rfl rfl)
theorem dX2_isNext_8 : decode cX2_isNext 8 = .ok (.getfield 23, 3) := dk_180 0 23 (dk_at dksX2_isNext_0 8 rfl rfl)
theorem dX2_isNext_11 : decode cX2_isNext 11 = .ok (.invokevirtual 85, 3) := dk_182 0 85 (dk_at dksX2_isNext_0 11 rfl rfl)
theorem dX2_isNext_14 : decode cX2_isNext 14 = .ok (.if_icmp .ge 120, 3) := dk_162 0 120 (dk_at dksX2_isNext_0 14 rfl rfl)
theorem dX2_isNext_17 : decode cX2_isNext 17 = .ok (.aload_n 0, 1) := dk_42 (dk_at dksX2_isNext_0 17 rfl rfl)
theorem dX2_isNext_18 : decode cX2_isNext 18 = .ok (.getfield 14, 3) := dk_180 0 14 (dk_at dksX2_isNext_0 18 rfl rfl)
theorem dX2_isNext_21 : decode cX2_isNext 21 = .ok (.aload_n 0, 1) := dk_42 (dk_at dksX2_isNext_0 21 rfl rfl)
theorem dX2_isNext_22 : decode cX2_isNext 22 = .ok (.getfield 23, 3) := dk_180 0 23 (dk_at dksX2_isNext_1 0 rfl rfl)
theorem dX2_isNext_25 : decode cX2_isNext 25 = .ok (.iload 4, 2) := dk_21 4 (dk_at dksX2_isNext_1 3 rfl rfl)
theorem dX2_isNext_27 : decode cX2_isNext 27 = .ok (.invokevirtual 96, 3) := dk_182 0 96 (dk_at dksX2_isNext_1 5 rfl rfl)
theorem dX2_isNext_30 : decode cX2_isNext 30 = .ok (.checkcast 45, 3) := dk_192 0 45 (dk_at dksX2_isNext_1 8 rfl rfl)
theorem dX2_isNext_33 : decode cX2_isNext 33 = .ok (.invokevirtual 100, 3) := dk_182 0 100 (dk_at dksX2_isNext_1 11 rfl rfl)
theorem dX2_isNext_36 : decode cX2_isNext 36 = .ok (.astore 5, 2) := dk_58 5 (dk_at dksX2_isNext_1 14 rfl rfl)
theorem dX2_isNext_38 : decode cX2_isNext 38 = .ok (.aload 5, 2) := dk_25 5 (dk_at dksX2_isNext_1 16 rfl rfl)
theorem dX2_isNext_40 : decode cX2_isNext 40 = .ok (.invokevirtual 104, 3) := dk_182 0 104 (dk_at dksX2_isNext_1 18 rfl rfl)
theorem dX2_isNext_43 : decode cX2_isNext 43 = .ok (.ifCond .eq 85, 3) := dk_153 0 85 (dk_at dksX2_isNext_1 21 rfl rfl)
theorem dX2_isNext_46 : decode cX2_isNext 46 = .ok (.aload_n 1, 1) := dk_43 (dk_at dksX2_isNext_2 0 rfl rfl)
theorem dX2_isNext_47 : decode cX2_isNext 47 = .ok (.ifnull 25, 3) := dk_198 0 25 (dk_at dksX2_isNext_2 1 rfl rfl)
theorem dX2_isNext_50 : decode cX2_isNext 50 = .ok (.aload 5, 2) := dk_25 5 (dk_at dksX2_isNext_2 4 rfl rfl)
theorem dX2_isNext_52 : decode cX2_isNext 52 = .ok (.aload_n 1, 1) := dk_43 (dk_at dksX2_isNext_2 6 rfl rfl)
theorem dX2_isNext_53 : decode cX2_isNext 53 = .ok (.invokevirtual 120, 3) := dk_182 0 120 (dk_at dksX2_isNext_2 7 rfl rfl)
theorem dX2_isNext_56 : decode cX2_isNext 56 = .ok (.ifCond .ne 12, 3) := dk_154 0 12 (dk_at dksX2_isNext_2 10 rfl rfl)
theorem dX2_isNext_59 : decode cX2_isNext 59 = .ok (.aload 5, 2) := dk_25 5 (dk_at dksX2_isNext_2 13 rfl rfl)
theorem dX2_isNext_61 : decode cX2_isNext 61 = .ok (.aload_n 1, 1) := dk_43 (dk_at dksX2_isNext_2 15 rfl rfl)
theorem dX2_isNext_62 : decode cX2_isNext 62 = .ok (.invokevirtual 124, 3) := dk_182 0 124 (dk_at dksX2_isNext_2 16 rfl rfl)
theorem dX2_isNext_65 : decode cX2_isNext 65 = .ok (.ifCond .eq 7, 3) := dk_153 0 7 (dk_at dksX2_isNext_2 19 rfl rfl)
theorem dX2_isNext_68 : decode cX2_isNext 68 = .ok (.iconst 1, 1) := dk_4 (dk_at dksX2_isNext_2 22 rfl rfl)
theorem dX2_isNext_69 : decode cX2_isNext 69 = .ok (.goto 4, 3) := dk_167 0 4 (dk_at dksX2_isNext_3 0 rfl rfl)
theorem dX2_isNext_72 : decode cX2_isNext 72 = .ok (.iconst 0, 1) := dk_3 (dk_at dksX2_isNext_3 3 rfl rfl)
theorem dX2_isNext_73 : decode cX2_isNext 73 = .ok (.istore 6, 2) := dk_54 6 (dk_at dksX2_isNext_3 4 rfl rfl)
theorem dX2_isNext_75 : decode cX2_isNext 75 = .ok (.iload 6, 2) := dk_21 6 (dk_at dksX2_isNext_3 6 rfl rfl)
theorem dX2_isNext_77 : decode cX2_isNext 77 = .ok (.ifCond .ne 48, 3) := dk_154 0 48 (dk_at dksX2_isNext_3 8 rfl rfl)
theorem dX2_isNext_80 : decode cX2_isNext 80 = .ok (.aload 5, 2) := dk_25 5 (dk_at dksX2_isNext_3 11 rfl rfl)
theorem dX2_isNext_82 : decode cX2_isNext 82 = .ok (.invokevirtual 107, 3) := dk_182 0 107 (dk_at dksX2_isNext_3 13 rfl rfl)
theorem dX2_isNext_85 : decode cX2_isNext 85 = .ok (.ifCond .eq 40, 3) := dk_153 0 40 (dk_at dksX2_isNext_3 16 rfl rfl)
theorem dX2_isNext_88 : decode cX2_isNext 88 = .ok (.iload_n 3, 1) := dk_29 (dk_at dksX2_isNext_3 19 rfl rfl)
theorem dX2_isNext_89 : decode cX2_isNext 89 = .ok (.ifCond .eq 12, 3) := dk_153 0 12 (dk_at dksX2_isNext_3 20 rfl rfl)
theorem dX2_isNext_92 : decode cX2_isNext 92 = .ok (.aload 5, 2) := dk_25 5 (dk_at dksX2_isNext_4 0 rfl rfl)
theorem dX2_isNext_94 : decode cX2_isNext 94 = .ok (.aload_n 2, 1) := dk_44 (dk_at dksX2_isNext_4 2 rfl rfl)
theorem dX2_isNext_95 : decode cX2_isNext 95 = .ok (.invokevirtual 120, 3) := dk_182 0 120 (dk_at dksX2_isNext_4 3 rfl rfl)
theorem dX2_isNext_98 : decode cX2_isNext 98 = .ok (.ifCond .eq 27, 3) := dk_153 0 27 (dk_at dksX2_isNext_4 6 rfl rfl)
theorem dX2_isNext_101 : decode cX2_isNext 101 = .ok (.aload_n 2, 1) := dk_44 (dk_at dksX2_isNext_4 9 rfl rfl)
theorem dX2_isNext_102 : decode cX2_isNext 102 = .ok (.aload 5, 2) := dk_25 5 (dk_at dksX2_isNext_4 10 rfl rfl)
theorem dX2_isNext_104 : decode cX2_isNext 104 = .ok (.getfield 127, 3) := dk_180 0 127 (dk_at dksX2_isNext_4 12 rfl rfl)
theorem dX2_isNext_107 : decode cX2_isNext 107 = .ok (.aload 5, 2) := dk_25 5 (dk_at dksX2_isNext_4 15 rfl rfl)
theorem dX2_isNext_109 : decode cX2_isNext 109 = .ok (.getfield 131, 3) := dk_180 0 131 (dk_at dksX2_isNext_4 17 rfl rfl)
theorem dX2_isNext_112 : decode cX2_isNext 112 = .ok (.getfield 74, 3) := dk_180 0 74 (dk_at dksX2_isNext_4 20 rfl rfl)
theorem dX2_isNext_115 : decode cX2_isNext 115 = .ok (.aload 5, 2) := dk_25 5 (dk_at dksX2_isNext_5 0 rfl rfl)
theorem dX2_isNext_117 : decode cX2_isNext 117 = .ok (.getfield 135, 3) := dk_180 0 135 (dk_at dksX2_isNext_5 2 rfl rfl)
theorem dX2_isNext_120 : decode cX2_isNext 120 = .ok (.invokevirtual 138, 3) := dk_182 0 138 (dk_at dksX2_isNext_5 5 rfl rfl)
theorem dX2_isNext_123 : decode cX2_isNext 123 = .ok (.iconst 1, 1) := dk_4 (dk_at dksX2_isNext_5 8 rfl rfl)
theorem dX2_isNext_124 : decode cX2_isNext 124 = .ok (.istore_n 3, 1) := dk_62 (dk_at dksX2_isNext_5 9 rfl rfl)
theorem dX2_isNext_125 : decode cX2_isNext 125 = .ok (.goto (-87), 3) := dk_167 255 169 (dk_at dksX2_isNext_5 10 rfl rfl)
theorem dX2_isNext_128 : decode cX2_isNext 128 = .ok (.iinc 4 1, 3) := dk_132 4 1 (dk_at dksX2_isNext_5 13 rfl rfl)
theorem dX2_isNext_131 : decode cX2_isNext 131 = .ok (.goto (-126), 3) := dk_167 255 130 (dk_at dksX2_isNext_5 16 rfl rfl)
theorem dX2_isNext_134 : decode cX2_isNext 134 = .ok (.iload_n 3, 1) := dk_29 (dk_at dksX2_isNext_5 19 rfl rfl)
theorem dX2_isNext_135 : decode cX2_isNext 135 = .ok (.ireturn, 1) := dk_172 (dk_at dksX2_isNext_5 20 rfl rfl)
abbrev cX2_fire : ByteArray := prog_2_method_14_code
def yX2_fire : MethodName := ⟨RX2, "fire", "(LMatchmakerRules$Firing;)I"⟩
def dkwX2_fire_10 : List UInt8 := [180, 0, 74, 172]
abbrev dktX2_fire_10 : List UInt8 := dkwX2_fire_10 ++ []
def dkwX2_fire_9 : List UInt8 := [180, 0, 67, 4, 96, 181, 0, 67, 2, 172, 25, 9, 180, 0, 186, 43, 182, 0, 47, 54, 10, 25, 9]
abbrev dktX2_fire_9 : List UInt8 := dkwX2_fire_9 ++ dktX2_fire_10
def dkwX2_fire_8 : List UInt8 := [182, 0, 179, 58, 9, 45, 180, 0, 183, 43, 182, 0, 47, 54, 10, 25, 9, 199, 0, 15, 42, 89]
abbrev dktX2_fire_8 : List UInt8 := dkwX2_fire_8 ++ dktX2_fire_9
def dkwX2_fire_7 : List UInt8 := [45, 180, 0, 175, 25, 4, 180, 0, 175, 106, 56, 10, 42, 25, 6, 180, 0, 168, 21, 7, 21, 8, 23, 10]
abbrev dktX2_fire_7 : List UInt8 := dkwX2_fire_7 ++ dktX2_fire_8
def dkwX2_fire_6 : List UInt8 := [42, 180, 0, 27, 182, 0, 85, 16, 20, 162, 0, 44, 25, 4, 199, 0, 10, 45, 180, 0, 175, 167, 0, 13]
abbrev dktX2_fire_6 : List UInt8 := dkwX2_fire_6 ++ dktX2_fire_7
def dkwX2_fire_5 : List UInt8 := [21, 7, 21, 8, 182, 0, 172, 58, 9, 42, 89, 180, 0, 64, 4, 96, 181, 0, 64, 25, 9, 199, 0, 56]
abbrev dktX2_fire_5 : List UInt8 := dkwX2_fire_5 ++ dktX2_fire_6
def dkwX2_fire_4 : List UInt8 := [25, 6, 3, 44, 182, 0, 164, 54, 7, 25, 6, 4, 44, 182, 0, 164, 54, 8, 42, 25, 6, 180, 0, 168]
abbrev dktX2_fire_4 : List UInt8 := dkwX2_fire_4 ++ dktX2_fire_5
def dkwX2_fire_3 : List UInt8 := [182, 0, 153, 153, 0, 7, 4, 167, 0, 4, 3, 126, 54, 5, 43, 180, 0, 149, 180, 0, 161, 58, 6]
abbrev dktX2_fire_3 : List UInt8 := dkwX2_fire_3 ++ dktX2_fire_4
def dkwX2_fire_2 : List UInt8 := [45, 44, 182, 0, 153, 54, 5, 21, 5, 25, 4, 198, 0, 19, 43, 180, 0, 149, 180, 0, 159, 25, 4, 44]
abbrev dktX2_fire_2 : List UInt8 := dkwX2_fire_2 ++ dktX2_fire_3
def dkwX2_fire_1 : List UInt8 := [160, 0, 7, 1, 167, 0, 11, 42, 43, 180, 0, 148, 182, 0, 77, 58, 4, 43, 180, 0, 149, 180, 0, 150]
abbrev dktX2_fire_1 : List UInt8 := dkwX2_fire_1 ++ dktX2_fire_2
def dkwX2_fire_0 : List UInt8 := [6, 188, 10, 77, 44, 184, 0, 142, 42, 43, 180, 0, 146, 182, 0, 77, 78, 43, 180, 0, 148, 2]
abbrev dktX2_fire_0 : List UInt8 := dkwX2_fire_0 ++ dktX2_fire_1
theorem dksX2_fire_0 : cX2_fire.data.toList.drop 0 = dktX2_fire_0 := by decide +kernel
theorem dksX2_fire_1 : cX2_fire.data.toList.drop 22 = dktX2_fire_1 := dk_seg dksX2_fire_0 22 rfl rfl
theorem dksX2_fire_2 : cX2_fire.data.toList.drop 46 = dktX2_fire_2 := dk_seg dksX2_fire_1 24 rfl rfl
theorem dksX2_fire_3 : cX2_fire.data.toList.drop 70 = dktX2_fire_3 := dk_seg dksX2_fire_2 24 rfl rfl
theorem dksX2_fire_4 : cX2_fire.data.toList.drop 93 = dktX2_fire_4 := dk_seg dksX2_fire_3 23 rfl rfl
theorem dksX2_fire_5 : cX2_fire.data.toList.drop 117 = dktX2_fire_5 := dk_seg dksX2_fire_4 24 rfl rfl
theorem dksX2_fire_6 : cX2_fire.data.toList.drop 141 = dktX2_fire_6 := dk_seg dksX2_fire_5 24 rfl rfl
theorem dksX2_fire_7 : cX2_fire.data.toList.drop 165 = dktX2_fire_7 := dk_seg dksX2_fire_6 24 rfl rfl
theorem dksX2_fire_8 : cX2_fire.data.toList.drop 189 = dktX2_fire_8 := dk_seg dksX2_fire_7 24 rfl rfl
theorem dksX2_fire_9 : cX2_fire.data.toList.drop 211 = dktX2_fire_9 := dk_seg dksX2_fire_8 22 rfl rfl
theorem dksX2_fire_10 : cX2_fire.data.toList.drop 234 = dktX2_fire_10 := dk_seg dksX2_fire_9 23 rfl rfl
theorem dX2_fire_0 : decode cX2_fire 0 = .ok (.iconst 3, 1) := dk_6 (dk_at dksX2_fire_0 0 rfl rfl)
theorem dX2_fire_1 : decode cX2_fire 1 = .ok (.newarray .int, 2) := dk_188_10 (dk_at dksX2_fire_0 1 rfl rfl)
theorem dX2_fire_3 : decode cX2_fire 3 = .ok (.astore_n 2, 1) := dk_77 (dk_at dksX2_fire_0 3 rfl rfl)
theorem dX2_fire_4 : decode cX2_fire 4 = .ok (.aload_n 2, 1) := dk_44 (dk_at dksX2_fire_0 4 rfl rfl)
theorem dX2_fire_5 : decode cX2_fire 5 = .ok (.invokestatic 142, 3) := dk_184 0 142 (dk_at dksX2_fire_0 5 rfl rfl)
theorem dX2_fire_8 : decode cX2_fire 8 = .ok (.aload_n 0, 1) := dk_42 (dk_at dksX2_fire_0 8 rfl rfl)
theorem dX2_fire_9 : decode cX2_fire 9 = .ok (.aload_n 1, 1) := dk_43 (dk_at dksX2_fire_0 9 rfl rfl)
theorem dX2_fire_10 : decode cX2_fire 10 = .ok (.getfield 146, 3) := dk_180 0 146 (dk_at dksX2_fire_0 10 rfl rfl)
theorem dX2_fire_13 : decode cX2_fire 13 = .ok (.invokevirtual 77, 3) := dk_182 0 77 (dk_at dksX2_fire_0 13 rfl rfl)
theorem dX2_fire_16 : decode cX2_fire 16 = .ok (.astore_n 3, 1) := dk_78 (dk_at dksX2_fire_0 16 rfl rfl)
theorem dX2_fire_17 : decode cX2_fire 17 = .ok (.aload_n 1, 1) := dk_43 (dk_at dksX2_fire_0 17 rfl rfl)
theorem dX2_fire_18 : decode cX2_fire 18 = .ok (.getfield 148, 3) := dk_180 0 148 (dk_at dksX2_fire_0 18 rfl rfl)
theorem dX2_fire_21 : decode cX2_fire 21 = .ok (.iconst (-1), 1) := dk_2 (dk_at dksX2_fire_0 21 rfl rfl)
theorem dX2_fire_22 : decode cX2_fire 22 = .ok (.if_icmp .ne 7, 3) := dk_160 0 7 (dk_at dksX2_fire_1 0 rfl rfl)
theorem dX2_fire_25 : decode cX2_fire 25 = .ok (.aconst_null, 1) := dk_1 (dk_at dksX2_fire_1 3 rfl rfl)
theorem dX2_fire_26 : decode cX2_fire 26 = .ok (.goto 11, 3) := dk_167 0 11 (dk_at dksX2_fire_1 4 rfl rfl)
theorem dX2_fire_29 : decode cX2_fire 29 = .ok (.aload_n 0, 1) := dk_42 (dk_at dksX2_fire_1 7 rfl rfl)
theorem dX2_fire_30 : decode cX2_fire 30 = .ok (.aload_n 1, 1) := dk_43 (dk_at dksX2_fire_1 8 rfl rfl)
theorem dX2_fire_31 : decode cX2_fire 31 = .ok (.getfield 148, 3) := dk_180 0 148 (dk_at dksX2_fire_1 9 rfl rfl)
theorem dX2_fire_34 : decode cX2_fire 34 = .ok (.invokevirtual 77, 3) := dk_182 0 77 (dk_at dksX2_fire_1 12 rfl rfl)
theorem dX2_fire_37 : decode cX2_fire 37 = .ok (.astore 4, 2) := dk_58 4 (dk_at dksX2_fire_1 15 rfl rfl)
theorem dX2_fire_39 : decode cX2_fire 39 = .ok (.aload_n 1, 1) := dk_43 (dk_at dksX2_fire_1 17 rfl rfl)
theorem dX2_fire_40 : decode cX2_fire 40 = .ok (.getfield 149, 3) := dk_180 0 149 (dk_at dksX2_fire_1 18 rfl rfl)
theorem dX2_fire_43 : decode cX2_fire 43 = .ok (.getfield 150, 3) := dk_180 0 150 (dk_at dksX2_fire_1 21 rfl rfl)
theorem dX2_fire_46 : decode cX2_fire 46 = .ok (.aload_n 3, 1) := dk_45 (dk_at dksX2_fire_2 0 rfl rfl)
theorem dX2_fire_47 : decode cX2_fire 47 = .ok (.aload_n 2, 1) := dk_44 (dk_at dksX2_fire_2 1 rfl rfl)
theorem dX2_fire_48 : decode cX2_fire 48 = .ok (.invokevirtual 153, 3) := dk_182 0 153 (dk_at dksX2_fire_2 2 rfl rfl)
theorem dX2_fire_51 : decode cX2_fire 51 = .ok (.istore 5, 2) := dk_54 5 (dk_at dksX2_fire_2 5 rfl rfl)
theorem dX2_fire_53 : decode cX2_fire 53 = .ok (.iload 5, 2) := dk_21 5 (dk_at dksX2_fire_2 7 rfl rfl)
theorem dX2_fire_55 : decode cX2_fire 55 = .ok (.aload 4, 2) := dk_25 4 (dk_at dksX2_fire_2 9 rfl rfl)
theorem dX2_fire_57 : decode cX2_fire 57 = .ok (.ifnull 19, 3) := dk_198 0 19 (dk_at dksX2_fire_2 11 rfl rfl)
theorem dX2_fire_60 : decode cX2_fire 60 = .ok (.aload_n 1, 1) := dk_43 (dk_at dksX2_fire_2 14 rfl rfl)
theorem dX2_fire_61 : decode cX2_fire 61 = .ok (.getfield 149, 3) := dk_180 0 149 (dk_at dksX2_fire_2 15 rfl rfl)
theorem dX2_fire_64 : decode cX2_fire 64 = .ok (.getfield 159, 3) := dk_180 0 159 (dk_at dksX2_fire_2 18 rfl rfl)
theorem dX2_fire_67 : decode cX2_fire 67 = .ok (.aload 4, 2) := dk_25 4 (dk_at dksX2_fire_2 21 rfl rfl)
theorem dX2_fire_69 : decode cX2_fire 69 = .ok (.aload_n 2, 1) := dk_44 (dk_at dksX2_fire_2 23 rfl rfl)
theorem dX2_fire_70 : decode cX2_fire 70 = .ok (.invokevirtual 153, 3) := dk_182 0 153 (dk_at dksX2_fire_3 0 rfl rfl)
theorem dX2_fire_73 : decode cX2_fire 73 = .ok (.ifCond .eq 7, 3) := dk_153 0 7 (dk_at dksX2_fire_3 3 rfl rfl)
theorem dX2_fire_76 : decode cX2_fire 76 = .ok (.iconst 1, 1) := dk_4 (dk_at dksX2_fire_3 6 rfl rfl)
theorem dX2_fire_77 : decode cX2_fire 77 = .ok (.goto 4, 3) := dk_167 0 4 (dk_at dksX2_fire_3 7 rfl rfl)
theorem dX2_fire_80 : decode cX2_fire 80 = .ok (.iconst 0, 1) := dk_3 (dk_at dksX2_fire_3 10 rfl rfl)
theorem dX2_fire_81 : decode cX2_fire 81 = .ok (.iand, 1) := dk_126 (dk_at dksX2_fire_3 11 rfl rfl)
theorem dX2_fire_82 : decode cX2_fire 82 = .ok (.istore 5, 2) := dk_54 5 (dk_at dksX2_fire_3 12 rfl rfl)
theorem dX2_fire_84 : decode cX2_fire 84 = .ok (.aload_n 1, 1) := dk_43 (dk_at dksX2_fire_3 14 rfl rfl)
theorem dX2_fire_85 : decode cX2_fire 85 = .ok (.getfield 149, 3) := dk_180 0 149 (dk_at dksX2_fire_3 15 rfl rfl)
theorem dX2_fire_88 : decode cX2_fire 88 = .ok (.getfield 161, 3) := dk_180 0 161 (dk_at dksX2_fire_3 18 rfl rfl)
theorem dX2_fire_91 : decode cX2_fire 91 = .ok (.astore 6, 2) := dk_58 6 (dk_at dksX2_fire_3 21 rfl rfl)
theorem dX2_fire_93 : decode cX2_fire 93 = .ok (.aload 6, 2) := dk_25 6 (dk_at dksX2_fire_4 0 rfl rfl)
theorem dX2_fire_95 : decode cX2_fire 95 = .ok (.iconst 0, 1) := dk_3 (dk_at dksX2_fire_4 2 rfl rfl)
theorem dX2_fire_96 : decode cX2_fire 96 = .ok (.aload_n 2, 1) := dk_44 (dk_at dksX2_fire_4 3 rfl rfl)
theorem dX2_fire_97 : decode cX2_fire 97 = .ok (.invokevirtual 164, 3) := dk_182 0 164 (dk_at dksX2_fire_4 4 rfl rfl)
theorem dX2_fire_100 : decode cX2_fire 100 = .ok (.istore 7, 2) := dk_54 7 (dk_at dksX2_fire_4 7 rfl rfl)
theorem dX2_fire_102 : decode cX2_fire 102 = .ok (.aload 6, 2) := dk_25 6 (dk_at dksX2_fire_4 9 rfl rfl)
theorem dX2_fire_104 : decode cX2_fire 104 = .ok (.iconst 1, 1) := dk_4 (dk_at dksX2_fire_4 11 rfl rfl)
theorem dX2_fire_105 : decode cX2_fire 105 = .ok (.aload_n 2, 1) := dk_44 (dk_at dksX2_fire_4 12 rfl rfl)
theorem dX2_fire_106 : decode cX2_fire 106 = .ok (.invokevirtual 164, 3) := dk_182 0 164 (dk_at dksX2_fire_4 13 rfl rfl)
theorem dX2_fire_109 : decode cX2_fire 109 = .ok (.istore 8, 2) := dk_54 8 (dk_at dksX2_fire_4 16 rfl rfl)
theorem dX2_fire_111 : decode cX2_fire 111 = .ok (.aload_n 0, 1) := dk_42 (dk_at dksX2_fire_4 18 rfl rfl)
theorem dX2_fire_112 : decode cX2_fire 112 = .ok (.aload 6, 2) := dk_25 6 (dk_at dksX2_fire_4 19 rfl rfl)
theorem dX2_fire_114 : decode cX2_fire 114 = .ok (.getfield 168, 3) := dk_180 0 168 (dk_at dksX2_fire_4 21 rfl rfl)
theorem dX2_fire_117 : decode cX2_fire 117 = .ok (.iload 7, 2) := dk_21 7 (dk_at dksX2_fire_5 0 rfl rfl)
theorem dX2_fire_119 : decode cX2_fire 119 = .ok (.iload 8, 2) := dk_21 8 (dk_at dksX2_fire_5 2 rfl rfl)
theorem dX2_fire_121 : decode cX2_fire 121 = .ok (.invokevirtual 172, 3) := dk_182 0 172 (dk_at dksX2_fire_5 4 rfl rfl)
theorem dX2_fire_124 : decode cX2_fire 124 = .ok (.astore 9, 2) := dk_58 9 (dk_at dksX2_fire_5 7 rfl rfl)
theorem dX2_fire_126 : decode cX2_fire 126 = .ok (.aload_n 0, 1) := dk_42 (dk_at dksX2_fire_5 9 rfl rfl)
theorem dX2_fire_127 : decode cX2_fire 127 = .ok (.dup, 1) := dk_89 (dk_at dksX2_fire_5 10 rfl rfl)
theorem dX2_fire_128 : decode cX2_fire 128 = .ok (.getfield 64, 3) := dk_180 0 64 (dk_at dksX2_fire_5 11 rfl rfl)
theorem dX2_fire_131 : decode cX2_fire 131 = .ok (.iconst 1, 1) := dk_4 (dk_at dksX2_fire_5 14 rfl rfl)
theorem dX2_fire_132 : decode cX2_fire 132 = .ok (.iadd, 1) := dk_96 (dk_at dksX2_fire_5 15 rfl rfl)
theorem dX2_fire_133 : decode cX2_fire 133 = .ok (.putfield 64, 3) := dk_181 0 64 (dk_at dksX2_fire_5 16 rfl rfl)
theorem dX2_fire_136 : decode cX2_fire 136 = .ok (.aload 9, 2) := dk_25 9 (dk_at dksX2_fire_5 19 rfl rfl)
theorem dX2_fire_138 : decode cX2_fire 138 = .ok (.ifnonnull 56, 3) := dk_199 0 56 (dk_at dksX2_fire_5 21 rfl rfl)
theorem dX2_fire_141 : decode cX2_fire 141 = .ok (.aload_n 0, 1) := dk_42 (dk_at dksX2_fire_6 0 rfl rfl)
theorem dX2_fire_142 : decode cX2_fire 142 = .ok (.getfield 27, 3) := dk_180 0 27 (dk_at dksX2_fire_6 1 rfl rfl)
theorem dX2_fire_145 : decode cX2_fire 145 = .ok (.invokevirtual 85, 3) := dk_182 0 85 (dk_at dksX2_fire_6 4 rfl rfl)
theorem dX2_fire_148 : decode cX2_fire 148 = .ok (.bipush 20, 2) := dk_16 20 (dk_at dksX2_fire_6 7 rfl rfl)
theorem dX2_fire_150 : decode cX2_fire 150 = .ok (.if_icmp .ge 44, 3) := dk_162 0 44 (dk_at dksX2_fire_6 9 rfl rfl)
theorem dX2_fire_153 : decode cX2_fire 153 = .ok (.aload 4, 2) := dk_25 4 (dk_at dksX2_fire_6 12 rfl rfl)
theorem dX2_fire_155 : decode cX2_fire 155 = .ok (.ifnonnull 10, 3) := dk_199 0 10 (dk_at dksX2_fire_6 14 rfl rfl)
theorem dX2_fire_158 : decode cX2_fire 158 = .ok (.aload_n 3, 1) := dk_45 (dk_at dksX2_fire_6 17 rfl rfl)
theorem dX2_fire_159 : decode cX2_fire 159 = .ok (.getfield 175, 3) := dk_180 0 175 (dk_at dksX2_fire_6 18 rfl rfl)
theorem dX2_fire_162 : decode cX2_fire 162 = .ok (.goto 13, 3) := dk_167 0 13 (dk_at dksX2_fire_6 21 rfl rfl)
theorem dX2_fire_165 : decode cX2_fire 165 = .ok (.aload_n 3, 1) := dk_45 (dk_at dksX2_fire_7 0 rfl rfl)
theorem dX2_fire_166 : decode cX2_fire 166 = .ok (.getfield 175, 3) := dk_180 0 175 (dk_at dksX2_fire_7 1 rfl rfl)
theorem dX2_fire_169 : decode cX2_fire 169 = .ok (.aload 4, 2) := dk_25 4 (dk_at dksX2_fire_7 4 rfl rfl)
theorem dX2_fire_171 : decode cX2_fire 171 = .ok (.getfield 175, 3) := dk_180 0 175 (dk_at dksX2_fire_7 6 rfl rfl)
theorem dX2_fire_174 : decode cX2_fire 174 = .ok (.fmul, 1) := dk_106 (dk_at dksX2_fire_7 9 rfl rfl)
theorem dX2_fire_175 : decode cX2_fire 175 = .ok (.fstore 10, 2) := dk_56 10 (dk_at dksX2_fire_7 10 rfl rfl)
theorem dX2_fire_177 : decode cX2_fire 177 = .ok (.aload_n 0, 1) := dk_42 (dk_at dksX2_fire_7 12 rfl rfl)
theorem dX2_fire_178 : decode cX2_fire 178 = .ok (.aload 6, 2) := dk_25 6 (dk_at dksX2_fire_7 13 rfl rfl)
theorem dX2_fire_180 : decode cX2_fire 180 = .ok (.getfield 168, 3) := dk_180 0 168 (dk_at dksX2_fire_7 15 rfl rfl)
theorem dX2_fire_183 : decode cX2_fire 183 = .ok (.iload 7, 2) := dk_21 7 (dk_at dksX2_fire_7 18 rfl rfl)
theorem dX2_fire_185 : decode cX2_fire 185 = .ok (.iload 8, 2) := dk_21 8 (dk_at dksX2_fire_7 20 rfl rfl)
theorem dX2_fire_187 : decode cX2_fire 187 = .ok (.fload 10, 2) := dk_23 10 (dk_at dksX2_fire_7 22 rfl rfl)
theorem dX2_fire_189 : decode cX2_fire 189 = .ok (.invokevirtual 179, 3) := dk_182 0 179 (dk_at dksX2_fire_8 0 rfl rfl)
theorem dX2_fire_192 : decode cX2_fire 192 = .ok (.astore 9, 2) := dk_58 9 (dk_at dksX2_fire_8 3 rfl rfl)
theorem dX2_fire_194 : decode cX2_fire 194 = .ok (.aload_n 3, 1) := dk_45 (dk_at dksX2_fire_8 5 rfl rfl)
theorem dX2_fire_195 : decode cX2_fire 195 = .ok (.getfield 183, 3) := dk_180 0 183 (dk_at dksX2_fire_8 6 rfl rfl)
theorem dX2_fire_198 : decode cX2_fire 198 = .ok (.aload_n 1, 1) := dk_43 (dk_at dksX2_fire_8 9 rfl rfl)
theorem dX2_fire_199 : decode cX2_fire 199 = .ok (.invokevirtual 47, 3) := dk_182 0 47 (dk_at dksX2_fire_8 10 rfl rfl)
theorem dX2_fire_202 : decode cX2_fire 202 = .ok (.istore 10, 2) := dk_54 10 (dk_at dksX2_fire_8 13 rfl rfl)
theorem dX2_fire_204 : decode cX2_fire 204 = .ok (.aload 9, 2) := dk_25 9 (dk_at dksX2_fire_8 15 rfl rfl)
theorem dX2_fire_206 : decode cX2_fire 206 = .ok (.ifnonnull 15, 3) := dk_199 0 15 (dk_at dksX2_fire_8 17 rfl rfl)
theorem dX2_fire_209 : decode cX2_fire 209 = .ok (.aload_n 0, 1) := dk_42 (dk_at dksX2_fire_8 20 rfl rfl)
theorem dX2_fire_210 : decode cX2_fire 210 = .ok (.dup, 1) := dk_89 (dk_at dksX2_fire_8 21 rfl rfl)
theorem dX2_fire_211 : decode cX2_fire 211 = .ok (.getfield 67, 3) := dk_180 0 67 (dk_at dksX2_fire_9 0 rfl rfl)
theorem dX2_fire_214 : decode cX2_fire 214 = .ok (.iconst 1, 1) := dk_4 (dk_at dksX2_fire_9 3 rfl rfl)
theorem dX2_fire_215 : decode cX2_fire 215 = .ok (.iadd, 1) := dk_96 (dk_at dksX2_fire_9 4 rfl rfl)
theorem dX2_fire_216 : decode cX2_fire 216 = .ok (.putfield 67, 3) := dk_181 0 67 (dk_at dksX2_fire_9 5 rfl rfl)
theorem dX2_fire_219 : decode cX2_fire 219 = .ok (.iconst (-1), 1) := dk_2 (dk_at dksX2_fire_9 8 rfl rfl)
theorem dX2_fire_220 : decode cX2_fire 220 = .ok (.ireturn, 1) := dk_172 (dk_at dksX2_fire_9 9 rfl rfl)
theorem dX2_fire_221 : decode cX2_fire 221 = .ok (.aload 9, 2) := dk_25 9 (dk_at dksX2_fire_9 10 rfl rfl)
theorem dX2_fire_223 : decode cX2_fire 223 = .ok (.getfield 186, 3) := dk_180 0 186 (dk_at dksX2_fire_9 12 rfl rfl)
theorem dX2_fire_226 : decode cX2_fire 226 = .ok (.aload_n 1, 1) := dk_43 (dk_at dksX2_fire_9 15 rfl rfl)
theorem dX2_fire_227 : decode cX2_fire 227 = .ok (.invokevirtual 47, 3) := dk_182 0 47 (dk_at dksX2_fire_9 16 rfl rfl)
theorem dX2_fire_230 : decode cX2_fire 230 = .ok (.istore 10, 2) := dk_54 10 (dk_at dksX2_fire_9 19 rfl rfl)
theorem dX2_fire_232 : decode cX2_fire 232 = .ok (.aload 9, 2) := dk_25 9 (dk_at dksX2_fire_9 21 rfl rfl)
theorem dX2_fire_234 : decode cX2_fire 234 = .ok (.getfield 74, 3) := dk_180 0 74 (dk_at dksX2_fire_10 0 rfl rfl)
theorem dX2_fire_237 : decode cX2_fire 237 = .ok (.ireturn, 1) := dk_172 (dk_at dksX2_fire_10 3 rfl rfl)
abbrev cX2_fireFirst : ByteArray := prog_2_method_16_code
def yX2_fireFirst : MethodName := ⟨RX2, "fireFirst", "()I"⟩
def dkwX2_fireFirst_1 : List UInt8 := [182, 0, 202, 172]
abbrev dktX2_fireFirst_1 : List UInt8 := dkwX2_fireFirst_1 ++ []
def dkwX2_fireFirst_0 : List UInt8 := [42, 182, 0, 192, 76, 43, 198, 0, 7, 4, 167, 0, 4, 3, 8, 42, 180, 0, 64, 184, 0, 196, 42, 43]
abbrev dktX2_fireFirst_0 : List UInt8 := dkwX2_fireFirst_0 ++ dktX2_fireFirst_1
theorem dksX2_fireFirst_0 : cX2_fireFirst.data.toList.drop 0 = dktX2_fireFirst_0 := by decide +kernel
theorem dksX2_fireFirst_1 : cX2_fireFirst.data.toList.drop 24 = dktX2_fireFirst_1 := dk_seg dksX2_fireFirst_0 24 rfl rfl
theorem dX2_fireFirst_0 : decode cX2_fireFirst 0 = .ok (.aload_n 0, 1) := dk_42 (dk_at dksX2_fireFirst_0 0 rfl rfl)
theorem dX2_fireFirst_1 : decode cX2_fireFirst 1 = .ok (.invokevirtual 192, 3) := dk_182 0 192 (dk_at dksX2_fireFirst_0 1 rfl rfl)
theorem dX2_fireFirst_4 : decode cX2_fireFirst 4 = .ok (.astore_n 1, 1) := dk_76 (dk_at dksX2_fireFirst_0 4 rfl rfl)
theorem dX2_fireFirst_5 : decode cX2_fireFirst 5 = .ok (.aload_n 1, 1) := dk_43 (dk_at dksX2_fireFirst_0 5 rfl rfl)
theorem dX2_fireFirst_6 : decode cX2_fireFirst 6 = .ok (.ifnull 7, 3) := dk_198 0 7 (dk_at dksX2_fireFirst_0 6 rfl rfl)
theorem dX2_fireFirst_9 : decode cX2_fireFirst 9 = .ok (.iconst 1, 1) := dk_4 (dk_at dksX2_fireFirst_0 9 rfl rfl)
theorem dX2_fireFirst_10 : decode cX2_fireFirst 10 = .ok (.goto 4, 3) := dk_167 0 4 (dk_at dksX2_fireFirst_0 10 rfl rfl)
theorem dX2_fireFirst_13 : decode cX2_fireFirst 13 = .ok (.iconst 0, 1) := dk_3 (dk_at dksX2_fireFirst_0 13 rfl rfl)
theorem dX2_fireFirst_14 : decode cX2_fireFirst 14 = .ok (.iconst 5, 1) := dk_8 (dk_at dksX2_fireFirst_0 14 rfl rfl)
theorem dX2_fireFirst_15 : decode cX2_fireFirst 15 = .ok (.aload_n 0, 1) := dk_42 (dk_at dksX2_fireFirst_0 15 rfl rfl)
theorem dX2_fireFirst_16 : decode cX2_fireFirst 16 = .ok (.getfield 64, 3) := dk_180 0 64 (dk_at dksX2_fireFirst_0 16 rfl rfl)
theorem dX2_fireFirst_19 : decode cX2_fireFirst 19 = .ok (.invokestatic 196, 3) := dk_184 0 196 (dk_at dksX2_fireFirst_0 19 rfl rfl)
theorem dX2_fireFirst_22 : decode cX2_fireFirst 22 = .ok (.aload_n 0, 1) := dk_42 (dk_at dksX2_fireFirst_0 22 rfl rfl)
theorem dX2_fireFirst_23 : decode cX2_fireFirst 23 = .ok (.aload_n 1, 1) := dk_43 (dk_at dksX2_fireFirst_0 23 rfl rfl)
theorem dX2_fireFirst_24 : decode cX2_fireFirst 24 = .ok (.invokevirtual 202, 3) := dk_182 0 202 (dk_at dksX2_fireFirst_1 0 rfl rfl)
theorem dX2_fireFirst_27 : decode cX2_fireFirst 27 = .ok (.ireturn, 1) := dk_172 (dk_at dksX2_fireFirst_1 3 rfl rfl)
abbrev cX2_fact : ByteArray := prog_2_method_5_code
def yX2_fact : MethodName := ⟨RX2, "fact", "(I)LMatchmakerRules$Fact;"⟩
def dkwX2_fact_0 : List UInt8 := [42, 27, 182, 0, 77, 77, 44, 198, 0, 7, 4, 167, 0, 4, 3, 184, 0, 81, 44, 176]
abbrev dktX2_fact_0 : List UInt8 := dkwX2_fact_0 ++ []
theorem dksX2_fact_0 : cX2_fact.data.toList.drop 0 = dktX2_fact_0 := by decide +kernel
theorem dX2_fact_0 : decode cX2_fact 0 = .ok (.aload_n 0, 1) := dk_42 (dk_at dksX2_fact_0 0 rfl rfl)
theorem dX2_fact_1 : decode cX2_fact 1 = .ok (.iload_n 1, 1) := dk_27 (dk_at dksX2_fact_0 1 rfl rfl)
theorem dX2_fact_2 : decode cX2_fact 2 = .ok (.invokevirtual 77, 3) := dk_182 0 77 (dk_at dksX2_fact_0 2 rfl rfl)
theorem dX2_fact_5 : decode cX2_fact 5 = .ok (.astore_n 2, 1) := dk_77 (dk_at dksX2_fact_0 5 rfl rfl)
theorem dX2_fact_6 : decode cX2_fact 6 = .ok (.aload_n 2, 1) := dk_44 (dk_at dksX2_fact_0 6 rfl rfl)
theorem dX2_fact_7 : decode cX2_fact 7 = .ok (.ifnull 7, 3) := dk_198 0 7 (dk_at dksX2_fact_0 7 rfl rfl)
theorem dX2_fact_10 : decode cX2_fact 10 = .ok (.iconst 1, 1) := dk_4 (dk_at dksX2_fact_0 10 rfl rfl)
theorem dX2_fact_11 : decode cX2_fact 11 = .ok (.goto 4, 3) := dk_167 0 4 (dk_at dksX2_fact_0 11 rfl rfl)
theorem dX2_fact_14 : decode cX2_fact 14 = .ok (.iconst 0, 1) := dk_3 (dk_at dksX2_fact_0 14 rfl rfl)
theorem dX2_fact_15 : decode cX2_fact 15 = .ok (.invokestatic 81, 3) := dk_184 0 81 (dk_at dksX2_fact_0 15 rfl rfl)
theorem dX2_fact_18 : decode cX2_fact 18 = .ok (.aload_n 2, 1) := dk_44 (dk_at dksX2_fact_0 18 rfl rfl)
theorem dX2_fact_19 : decode cX2_fact 19 = .ok (.areturn, 1) := dk_176 (dk_at dksX2_fact_0 19 rfl rfl)
abbrev cX2_uses : ByteArray := prog_2_method_31_code
def yX2_uses : MethodName := ⟨RX2, "uses", "(LMatchmakerRules$Fact;)I"⟩
def dkwX2_uses_2 : List UInt8 := [180, 0, 186, 43, 186, 1, 12, 0, 0, 184, 1, 15, 96, 61, 167, 255, 209, 28, 172]
abbrev dktX2_uses_2 : List UInt8 := dkwX2_uses_2 ++ []
def dkwX2_uses_1 : List UInt8 := [185, 0, 41, 1, 0, 192, 0, 51, 58, 4, 28, 25, 4, 43, 166, 0, 7, 3, 167, 0, 17, 25, 4]
abbrev dktX2_uses_1 : List UInt8 := dkwX2_uses_1 ++ dktX2_uses_2
def dkwX2_uses_0 : List UInt8 := [3, 61, 42, 180, 0, 27, 182, 0, 31, 78, 45, 185, 0, 35, 1, 0, 153, 0, 44, 45]
abbrev dktX2_uses_0 : List UInt8 := dkwX2_uses_0 ++ dktX2_uses_1
theorem dksX2_uses_0 : cX2_uses.data.toList.drop 0 = dktX2_uses_0 := by decide +kernel
theorem dksX2_uses_1 : cX2_uses.data.toList.drop 20 = dktX2_uses_1 := dk_seg dksX2_uses_0 20 rfl rfl
theorem dksX2_uses_2 : cX2_uses.data.toList.drop 43 = dktX2_uses_2 := dk_seg dksX2_uses_1 23 rfl rfl
theorem dX2_uses_0 : decode cX2_uses 0 = .ok (.iconst 0, 1) := dk_3 (dk_at dksX2_uses_0 0 rfl rfl)
theorem dX2_uses_1 : decode cX2_uses 1 = .ok (.istore_n 2, 1) := dk_61 (dk_at dksX2_uses_0 1 rfl rfl)
theorem dX2_uses_2 : decode cX2_uses 2 = .ok (.aload_n 0, 1) := dk_42 (dk_at dksX2_uses_0 2 rfl rfl)
theorem dX2_uses_3 : decode cX2_uses 3 = .ok (.getfield 27, 3) := dk_180 0 27 (dk_at dksX2_uses_0 3 rfl rfl)
theorem dX2_uses_6 : decode cX2_uses 6 = .ok (.invokevirtual 31, 3) := dk_182 0 31 (dk_at dksX2_uses_0 6 rfl rfl)
theorem dX2_uses_9 : decode cX2_uses 9 = .ok (.astore_n 3, 1) := dk_78 (dk_at dksX2_uses_0 9 rfl rfl)
theorem dX2_uses_10 : decode cX2_uses 10 = .ok (.aload_n 3, 1) := dk_45 (dk_at dksX2_uses_0 10 rfl rfl)
theorem dX2_uses_11 : decode cX2_uses 11 = .ok (.invokeinterface 35 1, 5) := by decide +kernel
theorem dX2_uses_16 : decode cX2_uses 16 = .ok (.ifCond .eq 44, 3) := dk_153 0 44 (dk_at dksX2_uses_0 16 rfl rfl)
theorem dX2_uses_19 : decode cX2_uses 19 = .ok (.aload_n 3, 1) := dk_45 (dk_at dksX2_uses_0 19 rfl rfl)
theorem dX2_uses_20 : decode cX2_uses 20 = .ok (.invokeinterface 41 1, 5) := by decide +kernel
theorem dX2_uses_25 : decode cX2_uses 25 = .ok (.checkcast 51, 3) := dk_192 0 51 (dk_at dksX2_uses_1 5 rfl rfl)
theorem dX2_uses_28 : decode cX2_uses 28 = .ok (.astore 4, 2) := dk_58 4 (dk_at dksX2_uses_1 8 rfl rfl)
theorem dX2_uses_30 : decode cX2_uses 30 = .ok (.iload_n 2, 1) := dk_28 (dk_at dksX2_uses_1 10 rfl rfl)
theorem dX2_uses_31 : decode cX2_uses 31 = .ok (.aload 4, 2) := dk_25 4 (dk_at dksX2_uses_1 11 rfl rfl)
theorem dX2_uses_33 : decode cX2_uses 33 = .ok (.aload_n 1, 1) := dk_43 (dk_at dksX2_uses_1 13 rfl rfl)
theorem dX2_uses_34 : decode cX2_uses 34 = .ok (.if_acmp .ne 7, 3) := dk_166 0 7 (dk_at dksX2_uses_1 14 rfl rfl)
theorem dX2_uses_37 : decode cX2_uses 37 = .ok (.iconst 0, 1) := dk_3 (dk_at dksX2_uses_1 17 rfl rfl)
theorem dX2_uses_38 : decode cX2_uses 38 = .ok (.goto 17, 3) := dk_167 0 17 (dk_at dksX2_uses_1 18 rfl rfl)
theorem dX2_uses_41 : decode cX2_uses 41 = .ok (.aload 4, 2) := dk_25 4 (dk_at dksX2_uses_1 21 rfl rfl)
theorem dX2_uses_43 : decode cX2_uses 43 = .ok (.getfield 186, 3) := dk_180 0 186 (dk_at dksX2_uses_2 0 rfl rfl)
theorem dX2_uses_46 : decode cX2_uses 46 = .ok (.aload_n 1, 1) := dk_43 (dk_at dksX2_uses_2 3 rfl rfl)
theorem dX2_uses_47 : decode cX2_uses 47 = .ok (.invokedynamic 268, 5) := by decide +kernel
theorem dX2_uses_52 : decode cX2_uses 52 = .ok (.invokestatic 271, 3) := dk_184 1 15 (dk_at dksX2_uses_2 9 rfl rfl)
theorem dX2_uses_55 : decode cX2_uses 55 = .ok (.iadd, 1) := dk_96 (dk_at dksX2_uses_2 12 rfl rfl)
theorem dX2_uses_56 : decode cX2_uses 56 = .ok (.istore_n 2, 1) := dk_61 (dk_at dksX2_uses_2 13 rfl rfl)
theorem dX2_uses_57 : decode cX2_uses 57 = .ok (.goto (-47), 3) := dk_167 255 209 (dk_at dksX2_uses_2 14 rfl rfl)
theorem dX2_uses_60 : decode cX2_uses 60 = .ok (.iload_n 2, 1) := dk_28 (dk_at dksX2_uses_2 17 rfl rfl)
theorem dX2_uses_61 : decode cX2_uses 61 = .ok (.ireturn, 1) := dk_172 (dk_at dksX2_uses_2 18 rfl rfl)
abbrev cX2_lambda_uses_4 : ByteArray := prog_2_method_40_code
def yX2_lambda_uses_4 : MethodName := ⟨RX2, "lambda$uses$4", "(LMatchmakerRules$Fact;LMatchmakerRules$Firing;)Z"⟩
def dkwX2_lambda_uses_4_0 : List UInt8 := [43, 42, 180, 0, 74, 182, 1, 65, 172]
abbrev dktX2_lambda_uses_4_0 : List UInt8 := dkwX2_lambda_uses_4_0 ++ []
theorem dksX2_lambda_uses_4_0 : cX2_lambda_uses_4.data.toList.drop 0 = dktX2_lambda_uses_4_0 := by decide +kernel
theorem dX2_lambda_uses_4_0 : decode cX2_lambda_uses_4 0 = .ok (.aload_n 1, 1) := dk_43 (dk_at dksX2_lambda_uses_4_0 0 rfl rfl)
theorem dX2_lambda_uses_4_1 : decode cX2_lambda_uses_4 1 = .ok (.aload_n 0, 1) := dk_42 (dk_at dksX2_lambda_uses_4_0 1 rfl rfl)
theorem dX2_lambda_uses_4_2 : decode cX2_lambda_uses_4 2 = .ok (.getfield 74, 3) := dk_180 0 74 (dk_at dksX2_lambda_uses_4_0 2 rfl rfl)
theorem dX2_lambda_uses_4_5 : decode cX2_lambda_uses_4 5 = .ok (.invokevirtual 321, 3) := dk_182 1 65 (dk_at dksX2_lambda_uses_4_0 5 rfl rfl)
theorem dX2_lambda_uses_4_8 : decode cX2_lambda_uses_4 8 = .ok (.ireturn, 1) := dk_172 (dk_at dksX2_lambda_uses_4_0 8 rfl rfl)
abbrev cX2_depth_2 : ByteArray := prog_2_method_21_code
def yX2_depth_2 : MethodName := ⟨RX2, "depth", "(LMatchmakerRules$Fact;)I"⟩
def dkwX2_depth_2_0 : List UInt8 := [42, 182, 0, 234, 42, 180, 0, 27, 43, 182, 0, 230, 46, 172]
abbrev dktX2_depth_2_0 : List UInt8 := dkwX2_depth_2_0 ++ []
theorem dksX2_depth_2_0 : cX2_depth_2.data.toList.drop 0 = dktX2_depth_2_0 := by decide +kernel
theorem dX2_depth_2_0 : decode cX2_depth_2 0 = .ok (.aload_n 0, 1) := dk_42 (dk_at dksX2_depth_2_0 0 rfl rfl)
theorem dX2_depth_2_1 : decode cX2_depth_2 1 = .ok (.invokevirtual 234, 3) := dk_182 0 234 (dk_at dksX2_depth_2_0 1 rfl rfl)
theorem dX2_depth_2_4 : decode cX2_depth_2 4 = .ok (.aload_n 0, 1) := dk_42 (dk_at dksX2_depth_2_0 4 rfl rfl)
theorem dX2_depth_2_5 : decode cX2_depth_2 5 = .ok (.getfield 27, 3) := dk_180 0 27 (dk_at dksX2_depth_2_0 5 rfl rfl)
theorem dX2_depth_2_8 : decode cX2_depth_2 8 = .ok (.aload_n 1, 1) := dk_43 (dk_at dksX2_depth_2_0 8 rfl rfl)
theorem dX2_depth_2_9 : decode cX2_depth_2 9 = .ok (.invokevirtual 230, 3) := dk_182 0 230 (dk_at dksX2_depth_2_0 9 rfl rfl)
theorem dX2_depth_2_12 : decode cX2_depth_2 12 = .ok (.iaload, 1) := dk_46 (dk_at dksX2_depth_2_0 12 rfl rfl)
theorem dX2_depth_2_13 : decode cX2_depth_2 13 = .ok (.ireturn, 1) := dk_172 (dk_at dksX2_depth_2_0 13 rfl rfl)
abbrev cX2_trusted : ByteArray := prog_2_method_33_code
def yX2_trusted : MethodName := ⟨RX2, "trusted", "(I)LMatchmakerRules$Fact;"⟩
def dkwX2_trusted_4 : List UInt8 := [167, 255, 172, 1, 176]
abbrev dktX2_trusted_4 : List UInt8 := dkwX2_trusted_4 ++ []
def dkwX2_trusted_3 : List UInt8 := [153, 0, 7, 4, 167, 0, 4, 3, 96, 54, 4, 167, 255, 214, 21, 4, 27, 160, 0, 5, 45, 176]
abbrev dktX2_trusted_3 : List UInt8 := dkwX2_trusted_3 ++ dktX2_trusted_4
def dkwX2_trusted_2 : List UInt8 := [153, 0, 38, 25, 5, 185, 0, 41, 1, 0, 192, 0, 51, 58, 6, 21, 4, 42, 25, 6, 45, 182, 1, 19]
abbrev dktX2_trusted_2 : List UInt8 := dkwX2_trusted_2 ++ dktX2_trusted_3
def dkwX2_trusted_1 : List UInt8 := [192, 0, 51, 78, 3, 54, 4, 42, 180, 0, 27, 182, 0, 31, 58, 5, 25, 5, 185, 0, 35, 1, 0]
abbrev dktX2_trusted_1 : List UInt8 := dkwX2_trusted_1 ++ dktX2_trusted_2
def dkwX2_trusted_0 : List UInt8 := [42, 180, 0, 27, 182, 0, 31, 77, 44, 185, 0, 35, 1, 0, 153, 0, 81, 44, 185, 0, 41, 1, 0]
abbrev dktX2_trusted_0 : List UInt8 := dkwX2_trusted_0 ++ dktX2_trusted_1
theorem dksX2_trusted_0 : cX2_trusted.data.toList.drop 0 = dktX2_trusted_0 := by decide +kernel
theorem dksX2_trusted_1 : cX2_trusted.data.toList.drop 23 = dktX2_trusted_1 := dk_seg dksX2_trusted_0 23 rfl rfl
theorem dksX2_trusted_2 : cX2_trusted.data.toList.drop 46 = dktX2_trusted_2 := dk_seg dksX2_trusted_1 23 rfl rfl
theorem dksX2_trusted_3 : cX2_trusted.data.toList.drop 70 = dktX2_trusted_3 := dk_seg dksX2_trusted_2 24 rfl rfl
theorem dksX2_trusted_4 : cX2_trusted.data.toList.drop 92 = dktX2_trusted_4 := dk_seg dksX2_trusted_3 22 rfl rfl
theorem dX2_trusted_0 : decode cX2_trusted 0 = .ok (.aload_n 0, 1) := dk_42 (dk_at dksX2_trusted_0 0 rfl rfl)
theorem dX2_trusted_1 : decode cX2_trusted 1 = .ok (.getfield 27, 3) := dk_180 0 27 (dk_at dksX2_trusted_0 1 rfl rfl)
theorem dX2_trusted_4 : decode cX2_trusted 4 = .ok (.invokevirtual 31, 3) := dk_182 0 31 (dk_at dksX2_trusted_0 4 rfl rfl)
theorem dX2_trusted_7 : decode cX2_trusted 7 = .ok (.astore_n 2, 1) := dk_77 (dk_at dksX2_trusted_0 7 rfl rfl)
theorem dX2_trusted_8 : decode cX2_trusted 8 = .ok (.aload_n 2, 1) := dk_44 (dk_at dksX2_trusted_0 8 rfl rfl)
theorem dX2_trusted_9 : decode cX2_trusted 9 = .ok (.invokeinterface 35 1, 5) := by decide +kernel
theorem dX2_trusted_14 : decode cX2_trusted 14 = .ok (.ifCond .eq 81, 3) := dk_153 0 81 (dk_at dksX2_trusted_0 14 rfl rfl)
theorem dX2_trusted_17 : decode cX2_trusted 17 = .ok (.aload_n 2, 1) := dk_44 (dk_at dksX2_trusted_0 17 rfl rfl)
theorem dX2_trusted_18 : decode cX2_trusted 18 = .ok (.invokeinterface 41 1, 5) := by decide +kernel
theorem dX2_trusted_23 : decode cX2_trusted 23 = .ok (.checkcast 51, 3) := dk_192 0 51 (dk_at dksX2_trusted_1 0 rfl rfl)
theorem dX2_trusted_26 : decode cX2_trusted 26 = .ok (.astore_n 3, 1) := dk_78 (dk_at dksX2_trusted_1 3 rfl rfl)
theorem dX2_trusted_27 : decode cX2_trusted 27 = .ok (.iconst 0, 1) := dk_3 (dk_at dksX2_trusted_1 4 rfl rfl)
theorem dX2_trusted_28 : decode cX2_trusted 28 = .ok (.istore 4, 2) := dk_54 4 (dk_at dksX2_trusted_1 5 rfl rfl)
theorem dX2_trusted_30 : decode cX2_trusted 30 = .ok (.aload_n 0, 1) := dk_42 (dk_at dksX2_trusted_1 7 rfl rfl)
theorem dX2_trusted_31 : decode cX2_trusted 31 = .ok (.getfield 27, 3) := dk_180 0 27 (dk_at dksX2_trusted_1 8 rfl rfl)
theorem dX2_trusted_34 : decode cX2_trusted 34 = .ok (.invokevirtual 31, 3) := dk_182 0 31 (dk_at dksX2_trusted_1 11 rfl rfl)
theorem dX2_trusted_37 : decode cX2_trusted 37 = .ok (.astore 5, 2) := dk_58 5 (dk_at dksX2_trusted_1 14 rfl rfl)
theorem dX2_trusted_39 : decode cX2_trusted 39 = .ok (.aload 5, 2) := dk_25 5 (dk_at dksX2_trusted_1 16 rfl rfl)
theorem dX2_trusted_41 : decode cX2_trusted 41 = .ok (.invokeinterface 35 1, 5) := by decide +kernel
theorem dX2_trusted_46 : decode cX2_trusted 46 = .ok (.ifCond .eq 38, 3) := dk_153 0 38 (dk_at dksX2_trusted_2 0 rfl rfl)
theorem dX2_trusted_49 : decode cX2_trusted 49 = .ok (.aload 5, 2) := dk_25 5 (dk_at dksX2_trusted_2 3 rfl rfl)
theorem dX2_trusted_51 : decode cX2_trusted 51 = .ok (.invokeinterface 41 1, 5) := by decide +kernel
theorem dX2_trusted_56 : decode cX2_trusted 56 = .ok (.checkcast 51, 3) := dk_192 0 51 (dk_at dksX2_trusted_2 10 rfl rfl)
theorem dX2_trusted_59 : decode cX2_trusted 59 = .ok (.astore 6, 2) := dk_58 6 (dk_at dksX2_trusted_2 13 rfl rfl)
theorem dX2_trusted_61 : decode cX2_trusted 61 = .ok (.iload 4, 2) := dk_21 4 (dk_at dksX2_trusted_2 15 rfl rfl)
theorem dX2_trusted_63 : decode cX2_trusted 63 = .ok (.aload_n 0, 1) := dk_42 (dk_at dksX2_trusted_2 17 rfl rfl)
theorem dX2_trusted_64 : decode cX2_trusted 64 = .ok (.aload 6, 2) := dk_25 6 (dk_at dksX2_trusted_2 18 rfl rfl)
theorem dX2_trusted_66 : decode cX2_trusted 66 = .ok (.aload_n 3, 1) := dk_45 (dk_at dksX2_trusted_2 20 rfl rfl)
theorem dX2_trusted_67 : decode cX2_trusted 67 = .ok (.invokevirtual 275, 3) := dk_182 1 19 (dk_at dksX2_trusted_2 21 rfl rfl)
theorem dX2_trusted_70 : decode cX2_trusted 70 = .ok (.ifCond .eq 7, 3) := dk_153 0 7 (dk_at dksX2_trusted_3 0 rfl rfl)
theorem dX2_trusted_73 : decode cX2_trusted 73 = .ok (.iconst 1, 1) := dk_4 (dk_at dksX2_trusted_3 3 rfl rfl)
theorem dX2_trusted_74 : decode cX2_trusted 74 = .ok (.goto 4, 3) := dk_167 0 4 (dk_at dksX2_trusted_3 4 rfl rfl)
theorem dX2_trusted_77 : decode cX2_trusted 77 = .ok (.iconst 0, 1) := dk_3 (dk_at dksX2_trusted_3 7 rfl rfl)
theorem dX2_trusted_78 : decode cX2_trusted 78 = .ok (.iadd, 1) := dk_96 (dk_at dksX2_trusted_3 8 rfl rfl)
theorem dX2_trusted_79 : decode cX2_trusted 79 = .ok (.istore 4, 2) := dk_54 4 (dk_at dksX2_trusted_3 9 rfl rfl)
theorem dX2_trusted_81 : decode cX2_trusted 81 = .ok (.goto (-42), 3) := dk_167 255 214 (dk_at dksX2_trusted_3 11 rfl rfl)
theorem dX2_trusted_84 : decode cX2_trusted 84 = .ok (.iload 4, 2) := dk_21 4 (dk_at dksX2_trusted_3 14 rfl rfl)
theorem dX2_trusted_86 : decode cX2_trusted 86 = .ok (.iload_n 1, 1) := dk_27 (dk_at dksX2_trusted_3 16 rfl rfl)
theorem dX2_trusted_87 : decode cX2_trusted 87 = .ok (.if_icmp .ne 5, 3) := dk_160 0 5 (dk_at dksX2_trusted_3 17 rfl rfl)
theorem dX2_trusted_90 : decode cX2_trusted 90 = .ok (.aload_n 3, 1) := dk_45 (dk_at dksX2_trusted_3 20 rfl rfl)
theorem dX2_trusted_91 : decode cX2_trusted 91 = .ok (.areturn, 1) := dk_176 (dk_at dksX2_trusted_3 21 rfl rfl)
theorem dX2_trusted_92 : decode cX2_trusted 92 = .ok (.goto (-84), 3) := dk_167 255 172 (dk_at dksX2_trusted_4 0 rfl rfl)
theorem dX2_trusted_95 : decode cX2_trusted 95 = .ok (.aconst_null, 1) := dk_1 (dk_at dksX2_trusted_4 3 rfl rfl)
theorem dX2_trusted_96 : decode cX2_trusted 96 = .ok (.areturn, 1) := dk_176 (dk_at dksX2_trusted_4 4 rfl rfl)
abbrev cX2_isAhead : ByteArray := prog_2_method_32_code
def yX2_isAhead : MethodName := ⟨RX2, "isAhead", "(LMatchmakerRules$Fact;LMatchmakerRules$Fact;)Z"⟩
def dkwX2_isAhead_1 : List UInt8 := [43, 180, 0, 74, 44, 180, 0, 74, 162, 0, 7, 4, 167, 0, 4, 3, 172]
abbrev dktX2_isAhead_1 : List UInt8 := dkwX2_isAhead_1 ++ []
def dkwX2_isAhead_0 : List UInt8 := [43, 180, 0, 175, 44, 180, 0, 175, 149, 157, 0, 26, 43, 180, 0, 175, 44, 180, 0, 175, 149, 154, 0, 18]
abbrev dktX2_isAhead_0 : List UInt8 := dkwX2_isAhead_0 ++ dktX2_isAhead_1
theorem dksX2_isAhead_0 : cX2_isAhead.data.toList.drop 0 = dktX2_isAhead_0 := by decide +kernel
theorem dksX2_isAhead_1 : cX2_isAhead.data.toList.drop 24 = dktX2_isAhead_1 := dk_seg dksX2_isAhead_0 24 rfl rfl
theorem dX2_isAhead_0 : decode cX2_isAhead 0 = .ok (.aload_n 1, 1) := dk_43 (dk_at dksX2_isAhead_0 0 rfl rfl)
theorem dX2_isAhead_1 : decode cX2_isAhead 1 = .ok (.getfield 175, 3) := dk_180 0 175 (dk_at dksX2_isAhead_0 1 rfl rfl)
theorem dX2_isAhead_4 : decode cX2_isAhead 4 = .ok (.aload_n 2, 1) := dk_44 (dk_at dksX2_isAhead_0 4 rfl rfl)
theorem dX2_isAhead_5 : decode cX2_isAhead 5 = .ok (.getfield 175, 3) := dk_180 0 175 (dk_at dksX2_isAhead_0 5 rfl rfl)
theorem dX2_isAhead_8 : decode cX2_isAhead 8 = .ok (.fcmp .l, 1) := dk_149 (dk_at dksX2_isAhead_0 8 rfl rfl)
theorem dX2_isAhead_9 : decode cX2_isAhead 9 = .ok (.ifCond .gt 26, 3) := dk_157 0 26 (dk_at dksX2_isAhead_0 9 rfl rfl)
theorem dX2_isAhead_12 : decode cX2_isAhead 12 = .ok (.aload_n 1, 1) := dk_43 (dk_at dksX2_isAhead_0 12 rfl rfl)
theorem dX2_isAhead_13 : decode cX2_isAhead 13 = .ok (.getfield 175, 3) := dk_180 0 175 (dk_at dksX2_isAhead_0 13 rfl rfl)
theorem dX2_isAhead_16 : decode cX2_isAhead 16 = .ok (.aload_n 2, 1) := dk_44 (dk_at dksX2_isAhead_0 16 rfl rfl)
theorem dX2_isAhead_17 : decode cX2_isAhead 17 = .ok (.getfield 175, 3) := dk_180 0 175 (dk_at dksX2_isAhead_0 17 rfl rfl)
theorem dX2_isAhead_20 : decode cX2_isAhead 20 = .ok (.fcmp .l, 1) := dk_149 (dk_at dksX2_isAhead_0 20 rfl rfl)
theorem dX2_isAhead_21 : decode cX2_isAhead 21 = .ok (.ifCond .ne 18, 3) := dk_154 0 18 (dk_at dksX2_isAhead_0 21 rfl rfl)
theorem dX2_isAhead_24 : decode cX2_isAhead 24 = .ok (.aload_n 1, 1) := dk_43 (dk_at dksX2_isAhead_1 0 rfl rfl)
theorem dX2_isAhead_25 : decode cX2_isAhead 25 = .ok (.getfield 74, 3) := dk_180 0 74 (dk_at dksX2_isAhead_1 1 rfl rfl)
theorem dX2_isAhead_28 : decode cX2_isAhead 28 = .ok (.aload_n 2, 1) := dk_44 (dk_at dksX2_isAhead_1 4 rfl rfl)
theorem dX2_isAhead_29 : decode cX2_isAhead 29 = .ok (.getfield 74, 3) := dk_180 0 74 (dk_at dksX2_isAhead_1 5 rfl rfl)
theorem dX2_isAhead_32 : decode cX2_isAhead 32 = .ok (.if_icmp .ge 7, 3) := dk_162 0 7 (dk_at dksX2_isAhead_1 8 rfl rfl)
theorem dX2_isAhead_35 : decode cX2_isAhead 35 = .ok (.iconst 1, 1) := dk_4 (dk_at dksX2_isAhead_1 11 rfl rfl)
theorem dX2_isAhead_36 : decode cX2_isAhead 36 = .ok (.goto 4, 3) := dk_167 0 4 (dk_at dksX2_isAhead_1 12 rfl rfl)
theorem dX2_isAhead_39 : decode cX2_isAhead 39 = .ok (.iconst 0, 1) := dk_3 (dk_at dksX2_isAhead_1 15 rfl rfl)
theorem dX2_isAhead_40 : decode cX2_isAhead 40 = .ok (.ireturn, 1) := dk_172 (dk_at dksX2_isAhead_1 16 rfl rfl)
abbrev cX2_agenda : ByteArray := prog_2_method_12_code
def yX2_agenda : MethodName := ⟨RX2, "agenda", "(I)LMatchmakerRules$Firing;"⟩
def dkwX2_agenda_3 : List UInt8 := [167, 0, 4, 1, 176]
abbrev dktX2_agenda_3 : List UInt8 := dkwX2_agenda_3 ++ []
def dkwX2_agenda_2 : List UInt8 := [78, 25, 6, 77, 42, 44, 45, 182, 0, 116, 54, 4, 132, 5, 1, 167, 255, 226, 21, 4, 153, 0, 7, 45]
abbrev dktX2_agenda_2 : List UInt8 := dkwX2_agenda_2 ++ dktX2_agenda_3
def dkwX2_agenda_1 : List UInt8 := [45, 182, 0, 116, 54, 4, 3, 54, 5, 21, 5, 27, 162, 0, 30, 21, 4, 153, 0, 25, 45, 58, 6, 44]
abbrev dktX2_agenda_1 : List UInt8 := dkwX2_agenda_1 ++ dktX2_agenda_2
def dkwX2_agenda_0 : List UInt8 := [27, 156, 0, 5, 1, 176, 187, 0, 113, 89, 183, 0, 115, 77, 187, 0, 113, 89, 183, 0, 115, 78, 42, 1]
abbrev dktX2_agenda_0 : List UInt8 := dkwX2_agenda_0 ++ dktX2_agenda_1
theorem dksX2_agenda_0 : cX2_agenda.data.toList.drop 0 = dktX2_agenda_0 := by decide +kernel
theorem dksX2_agenda_1 : cX2_agenda.data.toList.drop 24 = dktX2_agenda_1 := dk_seg dksX2_agenda_0 24 rfl rfl
theorem dksX2_agenda_2 : cX2_agenda.data.toList.drop 48 = dktX2_agenda_2 := dk_seg dksX2_agenda_1 24 rfl rfl
theorem dksX2_agenda_3 : cX2_agenda.data.toList.drop 72 = dktX2_agenda_3 := dk_seg dksX2_agenda_2 24 rfl rfl
theorem dX2_agenda_0 : decode cX2_agenda 0 = .ok (.iload_n 1, 1) := dk_27 (dk_at dksX2_agenda_0 0 rfl rfl)
theorem dX2_agenda_1 : decode cX2_agenda 1 = .ok (.ifCond .ge 5, 3) := dk_156 0 5 (dk_at dksX2_agenda_0 1 rfl rfl)
theorem dX2_agenda_4 : decode cX2_agenda 4 = .ok (.aconst_null, 1) := dk_1 (dk_at dksX2_agenda_0 4 rfl rfl)
theorem dX2_agenda_5 : decode cX2_agenda 5 = .ok (.areturn, 1) := dk_176 (dk_at dksX2_agenda_0 5 rfl rfl)
theorem dX2_agenda_6 : decode cX2_agenda 6 = .ok (.new 113, 3) := dk_187 0 113 (dk_at dksX2_agenda_0 6 rfl rfl)
theorem dX2_agenda_9 : decode cX2_agenda 9 = .ok (.dup, 1) := dk_89 (dk_at dksX2_agenda_0 9 rfl rfl)
theorem dX2_agenda_10 : decode cX2_agenda 10 = .ok (.invokespecial 115, 3) := dk_183 0 115 (dk_at dksX2_agenda_0 10 rfl rfl)
theorem dX2_agenda_13 : decode cX2_agenda 13 = .ok (.astore_n 2, 1) := dk_77 (dk_at dksX2_agenda_0 13 rfl rfl)
theorem dX2_agenda_14 : decode cX2_agenda 14 = .ok (.new 113, 3) := dk_187 0 113 (dk_at dksX2_agenda_0 14 rfl rfl)
theorem dX2_agenda_17 : decode cX2_agenda 17 = .ok (.dup, 1) := dk_89 (dk_at dksX2_agenda_0 17 rfl rfl)
theorem dX2_agenda_18 : decode cX2_agenda 18 = .ok (.invokespecial 115, 3) := dk_183 0 115 (dk_at dksX2_agenda_0 18 rfl rfl)
theorem dX2_agenda_21 : decode cX2_agenda 21 = .ok (.astore_n 3, 1) := dk_78 (dk_at dksX2_agenda_0 21 rfl rfl)
theorem dX2_agenda_22 : decode cX2_agenda 22 = .ok (.aload_n 0, 1) := dk_42 (dk_at dksX2_agenda_0 22 rfl rfl)
theorem dX2_agenda_23 : decode cX2_agenda 23 = .ok (.aconst_null, 1) := dk_1 (dk_at dksX2_agenda_0 23 rfl rfl)
theorem dX2_agenda_24 : decode cX2_agenda 24 = .ok (.aload_n 3, 1) := dk_45 (dk_at dksX2_agenda_1 0 rfl rfl)
theorem dX2_agenda_25 : decode cX2_agenda 25 = .ok (.invokevirtual 116, 3) := dk_182 0 116 (dk_at dksX2_agenda_1 1 rfl rfl)
theorem dX2_agenda_28 : decode cX2_agenda 28 = .ok (.istore 4, 2) := dk_54 4 (dk_at dksX2_agenda_1 4 rfl rfl)
theorem dX2_agenda_30 : decode cX2_agenda 30 = .ok (.iconst 0, 1) := dk_3 (dk_at dksX2_agenda_1 6 rfl rfl)
theorem dX2_agenda_31 : decode cX2_agenda 31 = .ok (.istore 5, 2) := dk_54 5 (dk_at dksX2_agenda_1 7 rfl rfl)
theorem dX2_agenda_33 : decode cX2_agenda 33 = .ok (.iload 5, 2) := dk_21 5 (dk_at dksX2_agenda_1 9 rfl rfl)
theorem dX2_agenda_35 : decode cX2_agenda 35 = .ok (.iload_n 1, 1) := dk_27 (dk_at dksX2_agenda_1 11 rfl rfl)
theorem dX2_agenda_36 : decode cX2_agenda 36 = .ok (.if_icmp .ge 30, 3) := dk_162 0 30 (dk_at dksX2_agenda_1 12 rfl rfl)
theorem dX2_agenda_39 : decode cX2_agenda 39 = .ok (.iload 4, 2) := dk_21 4 (dk_at dksX2_agenda_1 15 rfl rfl)
theorem dX2_agenda_41 : decode cX2_agenda 41 = .ok (.ifCond .eq 25, 3) := dk_153 0 25 (dk_at dksX2_agenda_1 17 rfl rfl)
theorem dX2_agenda_44 : decode cX2_agenda 44 = .ok (.aload_n 3, 1) := dk_45 (dk_at dksX2_agenda_1 20 rfl rfl)
theorem dX2_agenda_45 : decode cX2_agenda 45 = .ok (.astore 6, 2) := dk_58 6 (dk_at dksX2_agenda_1 21 rfl rfl)
theorem dX2_agenda_47 : decode cX2_agenda 47 = .ok (.aload_n 2, 1) := dk_44 (dk_at dksX2_agenda_1 23 rfl rfl)
theorem dX2_agenda_48 : decode cX2_agenda 48 = .ok (.astore_n 3, 1) := dk_78 (dk_at dksX2_agenda_2 0 rfl rfl)
theorem dX2_agenda_49 : decode cX2_agenda 49 = .ok (.aload 6, 2) := dk_25 6 (dk_at dksX2_agenda_2 1 rfl rfl)
theorem dX2_agenda_51 : decode cX2_agenda 51 = .ok (.astore_n 2, 1) := dk_77 (dk_at dksX2_agenda_2 3 rfl rfl)
theorem dX2_agenda_52 : decode cX2_agenda 52 = .ok (.aload_n 0, 1) := dk_42 (dk_at dksX2_agenda_2 4 rfl rfl)
theorem dX2_agenda_53 : decode cX2_agenda 53 = .ok (.aload_n 2, 1) := dk_44 (dk_at dksX2_agenda_2 5 rfl rfl)
theorem dX2_agenda_54 : decode cX2_agenda 54 = .ok (.aload_n 3, 1) := dk_45 (dk_at dksX2_agenda_2 6 rfl rfl)
theorem dX2_agenda_55 : decode cX2_agenda 55 = .ok (.invokevirtual 116, 3) := dk_182 0 116 (dk_at dksX2_agenda_2 7 rfl rfl)
theorem dX2_agenda_58 : decode cX2_agenda 58 = .ok (.istore 4, 2) := dk_54 4 (dk_at dksX2_agenda_2 10 rfl rfl)
theorem dX2_agenda_60 : decode cX2_agenda 60 = .ok (.iinc 5 1, 3) := dk_132 5 1 (dk_at dksX2_agenda_2 12 rfl rfl)
theorem dX2_agenda_63 : decode cX2_agenda 63 = .ok (.goto (-30), 3) := dk_167 255 226 (dk_at dksX2_agenda_2 15 rfl rfl)
theorem dX2_agenda_66 : decode cX2_agenda 66 = .ok (.iload 4, 2) := dk_21 4 (dk_at dksX2_agenda_2 18 rfl rfl)
theorem dX2_agenda_68 : decode cX2_agenda 68 = .ok (.ifCond .eq 7, 3) := dk_153 0 7 (dk_at dksX2_agenda_2 20 rfl rfl)
theorem dX2_agenda_71 : decode cX2_agenda 71 = .ok (.aload_n 3, 1) := dk_45 (dk_at dksX2_agenda_2 23 rfl rfl)
theorem dX2_agenda_72 : decode cX2_agenda 72 = .ok (.goto 4, 3) := dk_167 0 4 (dk_at dksX2_agenda_3 0 rfl rfl)
theorem dX2_agenda_75 : decode cX2_agenda 75 = .ok (.aconst_null, 1) := dk_1 (dk_at dksX2_agenda_3 3 rfl rfl)
theorem dX2_agenda_76 : decode cX2_agenda 76 = .ok (.areturn, 1) := dk_176 (dk_at dksX2_agenda_3 4 rfl rfl)
abbrev cX2_part : ByteArray := prog_2_method_38_code
def yX2_part : MethodName := ⟨RX2, "part", "(LMatchmakerRules$Firing;I)I"⟩
def dkwX2_part_3 : List UInt8 := [187, 1, 59, 89, 183, 1, 61, 191]
abbrev dktX2_part_3 : List UInt8 := dkwX2_part_3 ++ []
def dkwX2_part_2 : List UInt8 := [42, 180, 0, 23, 43, 180, 0, 149, 182, 0, 230, 172, 43, 180, 0, 146, 172, 43, 180, 0, 148, 172]
abbrev dktX2_part_2 : List UInt8 := dkwX2_part_2 ++ dktX2_part_3
def dkwX2_part_1 : List UInt8 := [170, 0, 0, 0, 0, 0, 49, 0, 0, 0, 0, 0, 0, 0, 2, 0, 0, 0, 27, 0, 0, 0, 39, 0, 0, 0, 44]
abbrev dktX2_part_1 : List UInt8 := dkwX2_part_1 ++ dktX2_part_2
def dkwX2_part_0 : List UInt8 := [28]
abbrev dktX2_part_0 : List UInt8 := dkwX2_part_0 ++ dktX2_part_1
theorem dksX2_part_0 : cX2_part.data.toList.drop 0 = dktX2_part_0 := by decide +kernel
theorem dksX2_part_1 : cX2_part.data.toList.drop 1 = dktX2_part_1 := dk_seg dksX2_part_0 1 rfl rfl
theorem dksX2_part_2 : cX2_part.data.toList.drop 28 = dktX2_part_2 := dk_seg dksX2_part_1 27 rfl rfl
theorem dksX2_part_3 : cX2_part.data.toList.drop 50 = dktX2_part_3 := dk_seg dksX2_part_2 22 rfl rfl
theorem dX2_part_0 : decode cX2_part 0 = .ok (.iload_n 2, 1) := dk_28 (dk_at dksX2_part_0 0 rfl rfl)
theorem dX2_part_1 : decode cX2_part 1 = .ok (.tableswitch 49 0 2 #[27, 39, 44], 27) := by decide +kernel
theorem dX2_part_28 : decode cX2_part 28 = .ok (.aload_n 0, 1) := dk_42 (dk_at dksX2_part_2 0 rfl rfl)
theorem dX2_part_29 : decode cX2_part 29 = .ok (.getfield 23, 3) := dk_180 0 23 (dk_at dksX2_part_2 1 rfl rfl)
theorem dX2_part_32 : decode cX2_part 32 = .ok (.aload_n 1, 1) := dk_43 (dk_at dksX2_part_2 4 rfl rfl)
theorem dX2_part_33 : decode cX2_part 33 = .ok (.getfield 149, 3) := dk_180 0 149 (dk_at dksX2_part_2 5 rfl rfl)
theorem dX2_part_36 : decode cX2_part 36 = .ok (.invokevirtual 230, 3) := dk_182 0 230 (dk_at dksX2_part_2 8 rfl rfl)
theorem dX2_part_39 : decode cX2_part 39 = .ok (.ireturn, 1) := dk_172 (dk_at dksX2_part_2 11 rfl rfl)
theorem dX2_part_40 : decode cX2_part 40 = .ok (.aload_n 1, 1) := dk_43 (dk_at dksX2_part_2 12 rfl rfl)
theorem dX2_part_41 : decode cX2_part 41 = .ok (.getfield 146, 3) := dk_180 0 146 (dk_at dksX2_part_2 13 rfl rfl)
theorem dX2_part_44 : decode cX2_part 44 = .ok (.ireturn, 1) := dk_172 (dk_at dksX2_part_2 16 rfl rfl)
theorem dX2_part_45 : decode cX2_part 45 = .ok (.aload_n 1, 1) := dk_43 (dk_at dksX2_part_2 17 rfl rfl)
theorem dX2_part_46 : decode cX2_part 46 = .ok (.getfield 148, 3) := dk_180 0 148 (dk_at dksX2_part_2 18 rfl rfl)
theorem dX2_part_49 : decode cX2_part 49 = .ok (.ireturn, 1) := dk_172 (dk_at dksX2_part_2 21 rfl rfl)
theorem dX2_part_50 : decode cX2_part 50 = .ok (.new 315, 3) := dk_187 1 59 (dk_at dksX2_part_3 0 rfl rfl)
theorem dX2_part_53 : decode cX2_part 53 = .ok (.dup, 1) := dk_89 (dk_at dksX2_part_3 3 rfl rfl)
theorem dX2_part_54 : decode cX2_part 54 = .ok (.invokespecial 317, 3) := dk_183 1 61 (dk_at dksX2_part_3 4 rfl rfl)
theorem dX2_part_57 : decode cX2_part 57 = .ok (.athrow, 1) := dk_191 (dk_at dksX2_part_3 7 rfl rfl)
abbrev cX2_rule : ByteArray := prog_2_method_6_code
def yX2_rule : MethodName := ⟨RX2, "rule", "(I)LMatchmakerRules$Rule;"⟩
def dkwX2_rule_1 : List UInt8 := [182, 0, 96, 192, 0, 45, 176]
abbrev dktX2_rule_1 : List UInt8 := dkwX2_rule_1 ++ []
def dkwX2_rule_0 : List UInt8 := [27, 133, 9, 42, 180, 0, 23, 182, 0, 85, 4, 100, 133, 184, 0, 89, 184, 0, 93, 42, 180, 0, 23, 27]
abbrev dktX2_rule_0 : List UInt8 := dkwX2_rule_0 ++ dktX2_rule_1
theorem dksX2_rule_0 : cX2_rule.data.toList.drop 0 = dktX2_rule_0 := by decide +kernel
theorem dksX2_rule_1 : cX2_rule.data.toList.drop 24 = dktX2_rule_1 := dk_seg dksX2_rule_0 24 rfl rfl
theorem dX2_rule_0 : decode cX2_rule 0 = .ok (.iload_n 1, 1) := dk_27 (dk_at dksX2_rule_0 0 rfl rfl)
theorem dX2_rule_1 : decode cX2_rule 1 = .ok (.i2l, 1) := dk_133 (dk_at dksX2_rule_0 1 rfl rfl)
theorem dX2_rule_2 : decode cX2_rule 2 = .ok (.lconst 0, 1) := dk_9 (dk_at dksX2_rule_0 2 rfl rfl)
theorem dX2_rule_3 : decode cX2_rule 3 = .ok (.aload_n 0, 1) := dk_42 (dk_at dksX2_rule_0 3 rfl rfl)
theorem dX2_rule_4 : decode cX2_rule 4 = .ok (.getfield 23, 3) := dk_180 0 23 (dk_at dksX2_rule_0 4 rfl rfl)
theorem dX2_rule_7 : decode cX2_rule 7 = .ok (.invokevirtual 85, 3) := dk_182 0 85 (dk_at dksX2_rule_0 7 rfl rfl)
theorem dX2_rule_10 : decode cX2_rule 10 = .ok (.iconst 1, 1) := dk_4 (dk_at dksX2_rule_0 10 rfl rfl)
theorem dX2_rule_11 : decode cX2_rule 11 = .ok (.isub, 1) := dk_100 (dk_at dksX2_rule_0 11 rfl rfl)
theorem dX2_rule_12 : decode cX2_rule 12 = .ok (.i2l, 1) := dk_133 (dk_at dksX2_rule_0 12 rfl rfl)
theorem dX2_rule_13 : decode cX2_rule 13 = .ok (.invokestatic 89, 3) := dk_184 0 89 (dk_at dksX2_rule_0 13 rfl rfl)
theorem dX2_rule_16 : decode cX2_rule 16 = .ok (.invokestatic 93, 3) := dk_184 0 93 (dk_at dksX2_rule_0 16 rfl rfl)
theorem dX2_rule_19 : decode cX2_rule 19 = .ok (.aload_n 0, 1) := dk_42 (dk_at dksX2_rule_0 19 rfl rfl)
theorem dX2_rule_20 : decode cX2_rule 20 = .ok (.getfield 23, 3) := dk_180 0 23 (dk_at dksX2_rule_0 20 rfl rfl)
theorem dX2_rule_23 : decode cX2_rule 23 = .ok (.iload_n 1, 1) := dk_27 (dk_at dksX2_rule_0 23 rfl rfl)
theorem dX2_rule_24 : decode cX2_rule 24 = .ok (.invokevirtual 96, 3) := dk_182 0 96 (dk_at dksX2_rule_1 0 rfl rfl)
theorem dX2_rule_27 : decode cX2_rule 27 = .ok (.checkcast 45, 3) := dk_192 0 45 (dk_at dksX2_rule_1 3 rfl rfl)
theorem dX2_rule_30 : decode cX2_rule 30 = .ok (.areturn, 1) := dk_176 (dk_at dksX2_rule_1 6 rfl rfl)
abbrev cX2_matches : ByteArray := prog_2_method_8_code
def yX2_matches : MethodName := ⟨RX2, "matches", "(LMatchmakerRules$Rule;)I"⟩
def dkwX2_matches_1 : List UInt8 := [28, 172]
abbrev dktX2_matches_1 : List UInt8 := dkwX2_matches_1 ++ []
def dkwX2_matches_0 : List UInt8 := [3, 61, 42, 180, 0, 14, 43, 182, 0, 100, 78, 45, 182, 0, 104, 153, 0, 9, 132, 2, 1, 167, 255, 246]
abbrev dktX2_matches_0 : List UInt8 := dkwX2_matches_0 ++ dktX2_matches_1
theorem dksX2_matches_0 : cX2_matches.data.toList.drop 0 = dktX2_matches_0 := by decide +kernel
theorem dksX2_matches_1 : cX2_matches.data.toList.drop 24 = dktX2_matches_1 := dk_seg dksX2_matches_0 24 rfl rfl
theorem dX2_matches_0 : decode cX2_matches 0 = .ok (.iconst 0, 1) := dk_3 (dk_at dksX2_matches_0 0 rfl rfl)
theorem dX2_matches_1 : decode cX2_matches 1 = .ok (.istore_n 2, 1) := dk_61 (dk_at dksX2_matches_0 1 rfl rfl)
theorem dX2_matches_2 : decode cX2_matches 2 = .ok (.aload_n 0, 1) := dk_42 (dk_at dksX2_matches_0 2 rfl rfl)
theorem dX2_matches_3 : decode cX2_matches 3 = .ok (.getfield 14, 3) := dk_180 0 14 (dk_at dksX2_matches_0 3 rfl rfl)
theorem dX2_matches_6 : decode cX2_matches 6 = .ok (.aload_n 1, 1) := dk_43 (dk_at dksX2_matches_0 6 rfl rfl)
theorem dX2_matches_7 : decode cX2_matches 7 = .ok (.invokevirtual 100, 3) := dk_182 0 100 (dk_at dksX2_matches_0 7 rfl rfl)
theorem dX2_matches_10 : decode cX2_matches 10 = .ok (.astore_n 3, 1) := dk_78 (dk_at dksX2_matches_0 10 rfl rfl)
theorem dX2_matches_11 : decode cX2_matches 11 = .ok (.aload_n 3, 1) := dk_45 (dk_at dksX2_matches_0 11 rfl rfl)
theorem dX2_matches_12 : decode cX2_matches 12 = .ok (.invokevirtual 104, 3) := dk_182 0 104 (dk_at dksX2_matches_0 12 rfl rfl)
theorem dX2_matches_15 : decode cX2_matches 15 = .ok (.ifCond .eq 9, 3) := dk_153 0 9 (dk_at dksX2_matches_0 15 rfl rfl)
theorem dX2_matches_18 : decode cX2_matches 18 = .ok (.iinc 2 1, 3) := dk_132 2 1 (dk_at dksX2_matches_0 18 rfl rfl)
theorem dX2_matches_21 : decode cX2_matches 21 = .ok (.goto (-10), 3) := dk_167 255 246 (dk_at dksX2_matches_0 21 rfl rfl)
theorem dX2_matches_24 : decode cX2_matches 24 = .ok (.iload_n 2, 1) := dk_28 (dk_at dksX2_matches_1 0 rfl rfl)
theorem dX2_matches_25 : decode cX2_matches 25 = .ok (.ireturn, 1) := dk_172 (dk_at dksX2_matches_1 1 rfl rfl)
abbrev cX2_quietIn : ByteArray := prog_2_method_18_code
def yX2_quietIn : MethodName := ⟨RX2, "quietIn", "()I"⟩
def dkwX2_quietIn_1 : List UInt8 := [43, 45, 182, 0, 202, 54, 4, 132, 2, 1, 167, 255, 229, 2, 172]
abbrev dktX2_quietIn_1 : List UInt8 := dkwX2_quietIn_1 ++ []
def dkwX2_quietIn_0 : List UInt8 := [42, 182, 0, 211, 76, 3, 61, 28, 16, 60, 163, 0, 27, 43, 182, 0, 192, 78, 45, 199, 0, 5, 28, 172]
abbrev dktX2_quietIn_0 : List UInt8 := dkwX2_quietIn_0 ++ dktX2_quietIn_1
theorem dksX2_quietIn_0 : cX2_quietIn.data.toList.drop 0 = dktX2_quietIn_0 := by decide +kernel
theorem dksX2_quietIn_1 : cX2_quietIn.data.toList.drop 24 = dktX2_quietIn_1 := dk_seg dksX2_quietIn_0 24 rfl rfl
theorem dX2_quietIn_0 : decode cX2_quietIn 0 = .ok (.aload_n 0, 1) := dk_42 (dk_at dksX2_quietIn_0 0 rfl rfl)
theorem dX2_quietIn_1 : decode cX2_quietIn 1 = .ok (.invokevirtual 211, 3) := dk_182 0 211 (dk_at dksX2_quietIn_0 1 rfl rfl)
theorem dX2_quietIn_4 : decode cX2_quietIn 4 = .ok (.astore_n 1, 1) := dk_76 (dk_at dksX2_quietIn_0 4 rfl rfl)
theorem dX2_quietIn_5 : decode cX2_quietIn 5 = .ok (.iconst 0, 1) := dk_3 (dk_at dksX2_quietIn_0 5 rfl rfl)
theorem dX2_quietIn_6 : decode cX2_quietIn 6 = .ok (.istore_n 2, 1) := dk_61 (dk_at dksX2_quietIn_0 6 rfl rfl)
theorem dX2_quietIn_7 : decode cX2_quietIn 7 = .ok (.iload_n 2, 1) := dk_28 (dk_at dksX2_quietIn_0 7 rfl rfl)
theorem dX2_quietIn_8 : decode cX2_quietIn 8 = .ok (.bipush 60, 2) := dk_16 60 (dk_at dksX2_quietIn_0 8 rfl rfl)
theorem dX2_quietIn_10 : decode cX2_quietIn 10 = .ok (.if_icmp .gt 27, 3) := dk_163 0 27 (dk_at dksX2_quietIn_0 10 rfl rfl)
theorem dX2_quietIn_13 : decode cX2_quietIn 13 = .ok (.aload_n 1, 1) := dk_43 (dk_at dksX2_quietIn_0 13 rfl rfl)
theorem dX2_quietIn_14 : decode cX2_quietIn 14 = .ok (.invokevirtual 192, 3) := dk_182 0 192 (dk_at dksX2_quietIn_0 14 rfl rfl)
theorem dX2_quietIn_17 : decode cX2_quietIn 17 = .ok (.astore_n 3, 1) := dk_78 (dk_at dksX2_quietIn_0 17 rfl rfl)
theorem dX2_quietIn_18 : decode cX2_quietIn 18 = .ok (.aload_n 3, 1) := dk_45 (dk_at dksX2_quietIn_0 18 rfl rfl)
theorem dX2_quietIn_19 : decode cX2_quietIn 19 = .ok (.ifnonnull 5, 3) := dk_199 0 5 (dk_at dksX2_quietIn_0 19 rfl rfl)
theorem dX2_quietIn_22 : decode cX2_quietIn 22 = .ok (.iload_n 2, 1) := dk_28 (dk_at dksX2_quietIn_0 22 rfl rfl)
theorem dX2_quietIn_23 : decode cX2_quietIn 23 = .ok (.ireturn, 1) := dk_172 (dk_at dksX2_quietIn_0 23 rfl rfl)
theorem dX2_quietIn_24 : decode cX2_quietIn 24 = .ok (.aload_n 1, 1) := dk_43 (dk_at dksX2_quietIn_1 0 rfl rfl)
theorem dX2_quietIn_25 : decode cX2_quietIn 25 = .ok (.aload_n 3, 1) := dk_45 (dk_at dksX2_quietIn_1 1 rfl rfl)
theorem dX2_quietIn_26 : decode cX2_quietIn 26 = .ok (.invokevirtual 202, 3) := dk_182 0 202 (dk_at dksX2_quietIn_1 2 rfl rfl)
theorem dX2_quietIn_29 : decode cX2_quietIn 29 = .ok (.istore 4, 2) := dk_54 4 (dk_at dksX2_quietIn_1 5 rfl rfl)
theorem dX2_quietIn_31 : decode cX2_quietIn 31 = .ok (.iinc 2 1, 3) := dk_132 2 1 (dk_at dksX2_quietIn_1 7 rfl rfl)
theorem dX2_quietIn_34 : decode cX2_quietIn 34 = .ok (.goto (-27), 3) := dk_167 255 229 (dk_at dksX2_quietIn_1 10 rfl rfl)
theorem dX2_quietIn_37 : decode cX2_quietIn 37 = .ok (.iconst (-1), 1) := dk_2 (dk_at dksX2_quietIn_1 13 rfl rfl)
theorem dX2_quietIn_38 : decode cX2_quietIn 38 = .ok (.ireturn, 1) := dk_172 (dk_at dksX2_quietIn_1 14 rfl rfl)
abbrev cX2_wouldGo : ByteArray := prog_2_method_28_code
def yX2_wouldGo : MethodName := ⟨RX2, "wouldGo", "(I)I"⟩
def dkwX2_wouldGo_1 : List UInt8 := [153, 0, 10, 45, 182, 0, 253, 167, 0, 4, 3, 172]
abbrev dktX2_wouldGo_1 : List UInt8 := dkwX2_wouldGo_1 ++ []
def dkwX2_wouldGo_0 : List UInt8 := [42, 27, 182, 1, 9, 180, 0, 214, 61, 42, 182, 0, 211, 78, 45, 27, 182, 0, 77, 3, 181, 0, 214, 28]
abbrev dktX2_wouldGo_0 : List UInt8 := dkwX2_wouldGo_0 ++ dktX2_wouldGo_1
theorem dksX2_wouldGo_0 : cX2_wouldGo.data.toList.drop 0 = dktX2_wouldGo_0 := by decide +kernel
theorem dksX2_wouldGo_1 : cX2_wouldGo.data.toList.drop 24 = dktX2_wouldGo_1 := dk_seg dksX2_wouldGo_0 24 rfl rfl
theorem dX2_wouldGo_0 : decode cX2_wouldGo 0 = .ok (.aload_n 0, 1) := dk_42 (dk_at dksX2_wouldGo_0 0 rfl rfl)
theorem dX2_wouldGo_1 : decode cX2_wouldGo 1 = .ok (.iload_n 1, 1) := dk_27 (dk_at dksX2_wouldGo_0 1 rfl rfl)
theorem dX2_wouldGo_2 : decode cX2_wouldGo 2 = .ok (.invokevirtual 265, 3) := dk_182 1 9 (dk_at dksX2_wouldGo_0 2 rfl rfl)
theorem dX2_wouldGo_5 : decode cX2_wouldGo 5 = .ok (.getfield 214, 3) := dk_180 0 214 (dk_at dksX2_wouldGo_0 5 rfl rfl)
theorem dX2_wouldGo_8 : decode cX2_wouldGo 8 = .ok (.istore_n 2, 1) := dk_61 (dk_at dksX2_wouldGo_0 8 rfl rfl)
theorem dX2_wouldGo_9 : decode cX2_wouldGo 9 = .ok (.aload_n 0, 1) := dk_42 (dk_at dksX2_wouldGo_0 9 rfl rfl)
theorem dX2_wouldGo_10 : decode cX2_wouldGo 10 = .ok (.invokevirtual 211, 3) := dk_182 0 211 (dk_at dksX2_wouldGo_0 10 rfl rfl)
theorem dX2_wouldGo_13 : decode cX2_wouldGo 13 = .ok (.astore_n 3, 1) := dk_78 (dk_at dksX2_wouldGo_0 13 rfl rfl)
theorem dX2_wouldGo_14 : decode cX2_wouldGo 14 = .ok (.aload_n 3, 1) := dk_45 (dk_at dksX2_wouldGo_0 14 rfl rfl)
theorem dX2_wouldGo_15 : decode cX2_wouldGo 15 = .ok (.iload_n 1, 1) := dk_27 (dk_at dksX2_wouldGo_0 15 rfl rfl)
theorem dX2_wouldGo_16 : decode cX2_wouldGo 16 = .ok (.invokevirtual 77, 3) := dk_182 0 77 (dk_at dksX2_wouldGo_0 16 rfl rfl)
theorem dX2_wouldGo_19 : decode cX2_wouldGo 19 = .ok (.iconst 0, 1) := dk_3 (dk_at dksX2_wouldGo_0 19 rfl rfl)
theorem dX2_wouldGo_20 : decode cX2_wouldGo 20 = .ok (.putfield 214, 3) := dk_181 0 214 (dk_at dksX2_wouldGo_0 20 rfl rfl)
theorem dX2_wouldGo_23 : decode cX2_wouldGo 23 = .ok (.iload_n 2, 1) := dk_28 (dk_at dksX2_wouldGo_0 23 rfl rfl)
theorem dX2_wouldGo_24 : decode cX2_wouldGo 24 = .ok (.ifCond .eq 10, 3) := dk_153 0 10 (dk_at dksX2_wouldGo_1 0 rfl rfl)
theorem dX2_wouldGo_27 : decode cX2_wouldGo 27 = .ok (.aload_n 3, 1) := dk_45 (dk_at dksX2_wouldGo_1 3 rfl rfl)
theorem dX2_wouldGo_28 : decode cX2_wouldGo 28 = .ok (.invokevirtual 253, 3) := dk_182 0 253 (dk_at dksX2_wouldGo_1 4 rfl rfl)
theorem dX2_wouldGo_31 : decode cX2_wouldGo 31 = .ok (.goto 4, 3) := dk_167 0 4 (dk_at dksX2_wouldGo_1 7 rfl rfl)
theorem dX2_wouldGo_34 : decode cX2_wouldGo 34 = .ok (.iconst 0, 1) := dk_3 (dk_at dksX2_wouldGo_1 10 rfl rfl)
theorem dX2_wouldGo_35 : decode cX2_wouldGo 35 = .ok (.ireturn, 1) := dk_172 (dk_at dksX2_wouldGo_1 11 rfl rfl)
abbrev cX2_told : ByteArray := prog_2_method_37_code
def yX2_told : MethodName := ⟨RX2, "told", "(LMatchmakerRules$Fact;)Ljava/lang/String;"⟩
def dkwX2_told_4 : List UInt8 := [42, 25, 5, 45, 182, 1, 51, 167, 255, 227, 45, 182, 1, 55, 176]
abbrev dktX2_told_4 : List UInt8 := dkwX2_told_4 ++ []
def dkwX2_told_3 : List UInt8 := [58, 4, 25, 4, 185, 0, 35, 1, 0, 153, 0, 25, 25, 4, 185, 0, 41, 1, 0, 192, 0, 113, 58, 5]
abbrev dktX2_told_3 : List UInt8 := dkwX2_told_3 ++ dktX2_told_4
def dkwX2_told_2 : List UInt8 := [180, 0, 214, 153, 0, 12, 44, 16, 33, 182, 1, 47, 167, 0, 4, 44, 78, 43, 180, 0, 186, 182, 0, 31]
abbrev dktX2_told_2 : List UInt8 := dkwX2_told_2 ++ dktX2_told_3
def dkwX2_told_1 : List UInt8 := [180, 1, 26, 182, 1, 47, 43, 180, 1, 27, 182, 1, 44, 43, 180, 1, 28, 182, 1, 44, 78, 43]
abbrev dktX2_told_1 : List UInt8 := dkwX2_told_1 ++ dktX2_told_2
def dkwX2_told_0 : List UInt8 := [187, 1, 39, 89, 183, 1, 50, 77, 44, 43, 180, 0, 74, 182, 1, 44, 16, 58, 182, 1, 47, 43]
abbrev dktX2_told_0 : List UInt8 := dkwX2_told_0 ++ dktX2_told_1
theorem dksX2_told_0 : cX2_told.data.toList.drop 0 = dktX2_told_0 := by decide +kernel
theorem dksX2_told_1 : cX2_told.data.toList.drop 22 = dktX2_told_1 := dk_seg dksX2_told_0 22 rfl rfl
theorem dksX2_told_2 : cX2_told.data.toList.drop 44 = dktX2_told_2 := dk_seg dksX2_told_1 22 rfl rfl
theorem dksX2_told_3 : cX2_told.data.toList.drop 68 = dktX2_told_3 := dk_seg dksX2_told_2 24 rfl rfl
theorem dksX2_told_4 : cX2_told.data.toList.drop 92 = dktX2_told_4 := dk_seg dksX2_told_3 24 rfl rfl
theorem dX2_told_0 : decode cX2_told 0 = .ok (.new 295, 3) := dk_187 1 39 (dk_at dksX2_told_0 0 rfl rfl)
theorem dX2_told_3 : decode cX2_told 3 = .ok (.dup, 1) := dk_89 (dk_at dksX2_told_0 3 rfl rfl)
theorem dX2_told_4 : decode cX2_told 4 = .ok (.invokespecial 306, 3) := dk_183 1 50 (dk_at dksX2_told_0 4 rfl rfl)
theorem dX2_told_7 : decode cX2_told 7 = .ok (.astore_n 2, 1) := dk_77 (dk_at dksX2_told_0 7 rfl rfl)
theorem dX2_told_8 : decode cX2_told 8 = .ok (.aload_n 2, 1) := dk_44 (dk_at dksX2_told_0 8 rfl rfl)
theorem dX2_told_9 : decode cX2_told 9 = .ok (.aload_n 1, 1) := dk_43 (dk_at dksX2_told_0 9 rfl rfl)
theorem dX2_told_10 : decode cX2_told 10 = .ok (.getfield 74, 3) := dk_180 0 74 (dk_at dksX2_told_0 10 rfl rfl)
theorem dX2_told_13 : decode cX2_told 13 = .ok (.invokevirtual 300, 3) := dk_182 1 44 (dk_at dksX2_told_0 13 rfl rfl)
theorem dX2_told_16 : decode cX2_told 16 = .ok (.bipush 58, 2) := dk_16 58 (dk_at dksX2_told_0 16 rfl rfl)
theorem dX2_told_18 : decode cX2_told 18 = .ok (.invokevirtual 303, 3) := dk_182 1 47 (dk_at dksX2_told_0 18 rfl rfl)
theorem dX2_told_21 : decode cX2_told 21 = .ok (.aload_n 1, 1) := dk_43 (dk_at dksX2_told_0 21 rfl rfl)
theorem dX2_told_22 : decode cX2_told 22 = .ok (.getfield 282, 3) := dk_180 1 26 (dk_at dksX2_told_1 0 rfl rfl)
theorem dX2_told_25 : decode cX2_told 25 = .ok (.invokevirtual 303, 3) := dk_182 1 47 (dk_at dksX2_told_1 3 rfl rfl)
theorem dX2_told_28 : decode cX2_told 28 = .ok (.aload_n 1, 1) := dk_43 (dk_at dksX2_told_1 6 rfl rfl)
theorem dX2_told_29 : decode cX2_told 29 = .ok (.getfield 283, 3) := dk_180 1 27 (dk_at dksX2_told_1 7 rfl rfl)
theorem dX2_told_32 : decode cX2_told 32 = .ok (.invokevirtual 300, 3) := dk_182 1 44 (dk_at dksX2_told_1 10 rfl rfl)
theorem dX2_told_35 : decode cX2_told 35 = .ok (.aload_n 1, 1) := dk_43 (dk_at dksX2_told_1 13 rfl rfl)
theorem dX2_told_36 : decode cX2_told 36 = .ok (.getfield 284, 3) := dk_180 1 28 (dk_at dksX2_told_1 14 rfl rfl)
theorem dX2_told_39 : decode cX2_told 39 = .ok (.invokevirtual 300, 3) := dk_182 1 44 (dk_at dksX2_told_1 17 rfl rfl)
theorem dX2_told_42 : decode cX2_told 42 = .ok (.astore_n 3, 1) := dk_78 (dk_at dksX2_told_1 20 rfl rfl)
theorem dX2_told_43 : decode cX2_told 43 = .ok (.aload_n 1, 1) := dk_43 (dk_at dksX2_told_1 21 rfl rfl)
theorem dX2_told_44 : decode cX2_told 44 = .ok (.getfield 214, 3) := dk_180 0 214 (dk_at dksX2_told_2 0 rfl rfl)
theorem dX2_told_47 : decode cX2_told 47 = .ok (.ifCond .eq 12, 3) := dk_153 0 12 (dk_at dksX2_told_2 3 rfl rfl)
theorem dX2_told_50 : decode cX2_told 50 = .ok (.aload_n 2, 1) := dk_44 (dk_at dksX2_told_2 6 rfl rfl)
theorem dX2_told_51 : decode cX2_told 51 = .ok (.bipush 33, 2) := dk_16 33 (dk_at dksX2_told_2 7 rfl rfl)
theorem dX2_told_53 : decode cX2_told 53 = .ok (.invokevirtual 303, 3) := dk_182 1 47 (dk_at dksX2_told_2 9 rfl rfl)
theorem dX2_told_56 : decode cX2_told 56 = .ok (.goto 4, 3) := dk_167 0 4 (dk_at dksX2_told_2 12 rfl rfl)
theorem dX2_told_59 : decode cX2_told 59 = .ok (.aload_n 2, 1) := dk_44 (dk_at dksX2_told_2 15 rfl rfl)
theorem dX2_told_60 : decode cX2_told 60 = .ok (.astore_n 3, 1) := dk_78 (dk_at dksX2_told_2 16 rfl rfl)
theorem dX2_told_61 : decode cX2_told 61 = .ok (.aload_n 1, 1) := dk_43 (dk_at dksX2_told_2 17 rfl rfl)
theorem dX2_told_62 : decode cX2_told 62 = .ok (.getfield 186, 3) := dk_180 0 186 (dk_at dksX2_told_2 18 rfl rfl)
theorem dX2_told_65 : decode cX2_told 65 = .ok (.invokevirtual 31, 3) := dk_182 0 31 (dk_at dksX2_told_2 21 rfl rfl)
theorem dX2_told_68 : decode cX2_told 68 = .ok (.astore 4, 2) := dk_58 4 (dk_at dksX2_told_3 0 rfl rfl)
theorem dX2_told_70 : decode cX2_told 70 = .ok (.aload 4, 2) := dk_25 4 (dk_at dksX2_told_3 2 rfl rfl)
theorem dX2_told_72 : decode cX2_told 72 = .ok (.invokeinterface 35 1, 5) := by decide +kernel
theorem dX2_told_77 : decode cX2_told 77 = .ok (.ifCond .eq 25, 3) := dk_153 0 25 (dk_at dksX2_told_3 9 rfl rfl)
theorem dX2_told_80 : decode cX2_told 80 = .ok (.aload 4, 2) := dk_25 4 (dk_at dksX2_told_3 12 rfl rfl)
theorem dX2_told_82 : decode cX2_told 82 = .ok (.invokeinterface 41 1, 5) := by decide +kernel
theorem dX2_told_87 : decode cX2_told 87 = .ok (.checkcast 113, 3) := dk_192 0 113 (dk_at dksX2_told_3 19 rfl rfl)
theorem dX2_told_90 : decode cX2_told 90 = .ok (.astore 5, 2) := dk_58 5 (dk_at dksX2_told_3 22 rfl rfl)
theorem dX2_told_92 : decode cX2_told 92 = .ok (.aload_n 0, 1) := dk_42 (dk_at dksX2_told_4 0 rfl rfl)
theorem dX2_told_93 : decode cX2_told 93 = .ok (.aload 5, 2) := dk_25 5 (dk_at dksX2_told_4 1 rfl rfl)
theorem dX2_told_95 : decode cX2_told 95 = .ok (.aload_n 3, 1) := dk_45 (dk_at dksX2_told_4 3 rfl rfl)
theorem dX2_told_96 : decode cX2_told 96 = .ok (.invokevirtual 307, 3) := dk_182 1 51 (dk_at dksX2_told_4 4 rfl rfl)
theorem dX2_told_99 : decode cX2_told 99 = .ok (.goto (-29), 3) := dk_167 255 227 (dk_at dksX2_told_4 7 rfl rfl)
theorem dX2_told_102 : decode cX2_told 102 = .ok (.aload_n 3, 1) := dk_45 (dk_at dksX2_told_4 10 rfl rfl)
theorem dX2_told_103 : decode cX2_told 103 = .ok (.invokevirtual 311, 3) := dk_182 1 55 (dk_at dksX2_told_4 11 rfl rfl)
theorem dX2_told_106 : decode cX2_told 106 = .ok (.areturn, 1) := dk_176 (dk_at dksX2_told_4 14 rfl rfl)
abbrev cX2_tell_2 : ByteArray := prog_2_method_36_code
def yX2_tell_2 : MethodName := ⟨RX2, "tell", "(LMatchmakerRules$Firing;Ljava/lang/StringBuilder;)V"⟩
def dkwX2_tell_2_2 : List UInt8 := [16, 44, 182, 1, 47, 43, 180, 0, 148, 182, 1, 44, 78, 177]
abbrev dktX2_tell_2_2 : List UInt8 := dkwX2_tell_2_2 ++ []
def dkwX2_tell_2_1 : List UInt8 := [182, 1, 47, 43, 180, 0, 146, 182, 1, 44, 78, 43, 180, 0, 148, 2, 160, 0, 7, 45, 167, 0, 16, 45]
abbrev dktX2_tell_2_1 : List UInt8 := dkwX2_tell_2_1 ++ dktX2_tell_2_2
def dkwX2_tell_2_0 : List UInt8 := [44, 19, 1, 36, 182, 1, 38, 42, 180, 0, 23, 43, 180, 0, 149, 182, 0, 230, 182, 1, 44, 16, 44]
abbrev dktX2_tell_2_0 : List UInt8 := dkwX2_tell_2_0 ++ dktX2_tell_2_1
theorem dksX2_tell_2_0 : cX2_tell_2.data.toList.drop 0 = dktX2_tell_2_0 := by decide +kernel
theorem dksX2_tell_2_1 : cX2_tell_2.data.toList.drop 23 = dktX2_tell_2_1 := dk_seg dksX2_tell_2_0 23 rfl rfl
theorem dksX2_tell_2_2 : cX2_tell_2.data.toList.drop 47 = dktX2_tell_2_2 := dk_seg dksX2_tell_2_1 24 rfl rfl
theorem dX2_tell_2_0 : decode cX2_tell_2 0 = .ok (.aload_n 2, 1) := dk_44 (dk_at dksX2_tell_2_0 0 rfl rfl)
theorem dX2_tell_2_1 : decode cX2_tell_2 1 = .ok (.ldc_w 292, 3) := dk_19 1 36 (dk_at dksX2_tell_2_0 1 rfl rfl)
theorem dX2_tell_2_4 : decode cX2_tell_2 4 = .ok (.invokevirtual 294, 3) := dk_182 1 38 (dk_at dksX2_tell_2_0 4 rfl rfl)
theorem dX2_tell_2_7 : decode cX2_tell_2 7 = .ok (.aload_n 0, 1) := dk_42 (dk_at dksX2_tell_2_0 7 rfl rfl)
theorem dX2_tell_2_8 : decode cX2_tell_2 8 = .ok (.getfield 23, 3) := dk_180 0 23 (dk_at dksX2_tell_2_0 8 rfl rfl)
theorem dX2_tell_2_11 : decode cX2_tell_2 11 = .ok (.aload_n 1, 1) := dk_43 (dk_at dksX2_tell_2_0 11 rfl rfl)
theorem dX2_tell_2_12 : decode cX2_tell_2 12 = .ok (.getfield 149, 3) := dk_180 0 149 (dk_at dksX2_tell_2_0 12 rfl rfl)
theorem dX2_tell_2_15 : decode cX2_tell_2 15 = .ok (.invokevirtual 230, 3) := dk_182 0 230 (dk_at dksX2_tell_2_0 15 rfl rfl)
theorem dX2_tell_2_18 : decode cX2_tell_2 18 = .ok (.invokevirtual 300, 3) := dk_182 1 44 (dk_at dksX2_tell_2_0 18 rfl rfl)
theorem dX2_tell_2_21 : decode cX2_tell_2 21 = .ok (.bipush 44, 2) := dk_16 44 (dk_at dksX2_tell_2_0 21 rfl rfl)
theorem dX2_tell_2_23 : decode cX2_tell_2 23 = .ok (.invokevirtual 303, 3) := dk_182 1 47 (dk_at dksX2_tell_2_1 0 rfl rfl)
theorem dX2_tell_2_26 : decode cX2_tell_2 26 = .ok (.aload_n 1, 1) := dk_43 (dk_at dksX2_tell_2_1 3 rfl rfl)
theorem dX2_tell_2_27 : decode cX2_tell_2 27 = .ok (.getfield 146, 3) := dk_180 0 146 (dk_at dksX2_tell_2_1 4 rfl rfl)
theorem dX2_tell_2_30 : decode cX2_tell_2 30 = .ok (.invokevirtual 300, 3) := dk_182 1 44 (dk_at dksX2_tell_2_1 7 rfl rfl)
theorem dX2_tell_2_33 : decode cX2_tell_2 33 = .ok (.astore_n 3, 1) := dk_78 (dk_at dksX2_tell_2_1 10 rfl rfl)
theorem dX2_tell_2_34 : decode cX2_tell_2 34 = .ok (.aload_n 1, 1) := dk_43 (dk_at dksX2_tell_2_1 11 rfl rfl)
theorem dX2_tell_2_35 : decode cX2_tell_2 35 = .ok (.getfield 148, 3) := dk_180 0 148 (dk_at dksX2_tell_2_1 12 rfl rfl)
theorem dX2_tell_2_38 : decode cX2_tell_2 38 = .ok (.iconst (-1), 1) := dk_2 (dk_at dksX2_tell_2_1 15 rfl rfl)
theorem dX2_tell_2_39 : decode cX2_tell_2 39 = .ok (.if_icmp .ne 7, 3) := dk_160 0 7 (dk_at dksX2_tell_2_1 16 rfl rfl)
theorem dX2_tell_2_42 : decode cX2_tell_2 42 = .ok (.aload_n 3, 1) := dk_45 (dk_at dksX2_tell_2_1 19 rfl rfl)
theorem dX2_tell_2_43 : decode cX2_tell_2 43 = .ok (.goto 16, 3) := dk_167 0 16 (dk_at dksX2_tell_2_1 20 rfl rfl)
theorem dX2_tell_2_46 : decode cX2_tell_2 46 = .ok (.aload_n 3, 1) := dk_45 (dk_at dksX2_tell_2_1 23 rfl rfl)
theorem dX2_tell_2_47 : decode cX2_tell_2 47 = .ok (.bipush 44, 2) := dk_16 44 (dk_at dksX2_tell_2_2 0 rfl rfl)
theorem dX2_tell_2_49 : decode cX2_tell_2 49 = .ok (.invokevirtual 303, 3) := dk_182 1 47 (dk_at dksX2_tell_2_2 2 rfl rfl)
theorem dX2_tell_2_52 : decode cX2_tell_2 52 = .ok (.aload_n 1, 1) := dk_43 (dk_at dksX2_tell_2_2 5 rfl rfl)
theorem dX2_tell_2_53 : decode cX2_tell_2 53 = .ok (.getfield 148, 3) := dk_180 0 148 (dk_at dksX2_tell_2_2 6 rfl rfl)
theorem dX2_tell_2_56 : decode cX2_tell_2 56 = .ok (.invokevirtual 300, 3) := dk_182 1 44 (dk_at dksX2_tell_2_2 9 rfl rfl)
theorem dX2_tell_2_59 : decode cX2_tell_2 59 = .ok (.astore_n 3, 1) := dk_78 (dk_at dksX2_tell_2_2 12 rfl rfl)
theorem dX2_tell_2_60 : decode cX2_tell_2 60 = .ok (.return_, 1) := dk_177 (dk_at dksX2_tell_2_2 13 rfl rfl)
abbrev cX2_told_2 : ByteArray := prog_2_method_29_code
def yX2_told_2 : MethodName := ⟨RX2, "told", "()I"⟩
def dkwX2_told_2_2 : List UInt8 := [167, 255, 222, 27, 172]
abbrev dktX2_told_2_2 : List UInt8 := dkwX2_told_2_2 ++ []
def dkwX2_told_2_1 : List UInt8 := [185, 0, 41, 1, 0, 192, 0, 51, 78, 27, 45, 180, 0, 214, 153, 0, 7, 4, 167, 0, 4, 3, 96, 60]
abbrev dktX2_told_2_1 : List UInt8 := dkwX2_told_2_1 ++ dktX2_told_2_2
def dkwX2_told_2_0 : List UInt8 := [3, 60, 42, 180, 0, 27, 182, 0, 31, 77, 44, 185, 0, 35, 1, 0, 153, 0, 31, 44]
abbrev dktX2_told_2_0 : List UInt8 := dkwX2_told_2_0 ++ dktX2_told_2_1
theorem dksX2_told_2_0 : cX2_told_2.data.toList.drop 0 = dktX2_told_2_0 := by decide +kernel
theorem dksX2_told_2_1 : cX2_told_2.data.toList.drop 20 = dktX2_told_2_1 := dk_seg dksX2_told_2_0 20 rfl rfl
theorem dksX2_told_2_2 : cX2_told_2.data.toList.drop 44 = dktX2_told_2_2 := dk_seg dksX2_told_2_1 24 rfl rfl
theorem dX2_told_2_0 : decode cX2_told_2 0 = .ok (.iconst 0, 1) := dk_3 (dk_at dksX2_told_2_0 0 rfl rfl)
theorem dX2_told_2_1 : decode cX2_told_2 1 = .ok (.istore_n 1, 1) := dk_60 (dk_at dksX2_told_2_0 1 rfl rfl)
theorem dX2_told_2_2 : decode cX2_told_2 2 = .ok (.aload_n 0, 1) := dk_42 (dk_at dksX2_told_2_0 2 rfl rfl)
theorem dX2_told_2_3 : decode cX2_told_2 3 = .ok (.getfield 27, 3) := dk_180 0 27 (dk_at dksX2_told_2_0 3 rfl rfl)
theorem dX2_told_2_6 : decode cX2_told_2 6 = .ok (.invokevirtual 31, 3) := dk_182 0 31 (dk_at dksX2_told_2_0 6 rfl rfl)
theorem dX2_told_2_9 : decode cX2_told_2 9 = .ok (.astore_n 2, 1) := dk_77 (dk_at dksX2_told_2_0 9 rfl rfl)
theorem dX2_told_2_10 : decode cX2_told_2 10 = .ok (.aload_n 2, 1) := dk_44 (dk_at dksX2_told_2_0 10 rfl rfl)
theorem dX2_told_2_11 : decode cX2_told_2 11 = .ok (.invokeinterface 35 1, 5) := by decide +kernel
theorem dX2_told_2_16 : decode cX2_told_2 16 = .ok (.ifCond .eq 31, 3) := dk_153 0 31 (dk_at dksX2_told_2_0 16 rfl rfl)
theorem dX2_told_2_19 : decode cX2_told_2 19 = .ok (.aload_n 2, 1) := dk_44 (dk_at dksX2_told_2_0 19 rfl rfl)
theorem dX2_told_2_20 : decode cX2_told_2 20 = .ok (.invokeinterface 41 1, 5) := by decide +kernel
theorem dX2_told_2_25 : decode cX2_told_2 25 = .ok (.checkcast 51, 3) := dk_192 0 51 (dk_at dksX2_told_2_1 5 rfl rfl)
theorem dX2_told_2_28 : decode cX2_told_2 28 = .ok (.astore_n 3, 1) := dk_78 (dk_at dksX2_told_2_1 8 rfl rfl)
theorem dX2_told_2_29 : decode cX2_told_2 29 = .ok (.iload_n 1, 1) := dk_27 (dk_at dksX2_told_2_1 9 rfl rfl)
theorem dX2_told_2_30 : decode cX2_told_2 30 = .ok (.aload_n 3, 1) := dk_45 (dk_at dksX2_told_2_1 10 rfl rfl)
theorem dX2_told_2_31 : decode cX2_told_2 31 = .ok (.getfield 214, 3) := dk_180 0 214 (dk_at dksX2_told_2_1 11 rfl rfl)
theorem dX2_told_2_34 : decode cX2_told_2 34 = .ok (.ifCond .eq 7, 3) := dk_153 0 7 (dk_at dksX2_told_2_1 14 rfl rfl)
theorem dX2_told_2_37 : decode cX2_told_2 37 = .ok (.iconst 1, 1) := dk_4 (dk_at dksX2_told_2_1 17 rfl rfl)
theorem dX2_told_2_38 : decode cX2_told_2 38 = .ok (.goto 4, 3) := dk_167 0 4 (dk_at dksX2_told_2_1 18 rfl rfl)
theorem dX2_told_2_41 : decode cX2_told_2 41 = .ok (.iconst 0, 1) := dk_3 (dk_at dksX2_told_2_1 21 rfl rfl)
theorem dX2_told_2_42 : decode cX2_told_2 42 = .ok (.iadd, 1) := dk_96 (dk_at dksX2_told_2_1 22 rfl rfl)
theorem dX2_told_2_43 : decode cX2_told_2 43 = .ok (.istore_n 1, 1) := dk_60 (dk_at dksX2_told_2_1 23 rfl rfl)
theorem dX2_told_2_44 : decode cX2_told_2 44 = .ok (.goto (-34), 3) := dk_167 255 222 (dk_at dksX2_told_2_2 0 rfl rfl)
theorem dX2_told_2_47 : decode cX2_told_2 47 = .ok (.iload_n 1, 1) := dk_27 (dk_at dksX2_told_2_2 3 rfl rfl)
theorem dX2_told_2_48 : decode cX2_told_2 48 = .ok (.ireturn, 1) := dk_172 (dk_at dksX2_told_2_2 4 rfl rfl)
abbrev cX2_reasons : ByteArray := prog_2_method_30_code
def yX2_reasons : MethodName := ⟨RX2, "reasons", "()I"⟩
def dkwX2_reasons_1 : List UInt8 := [185, 0, 41, 1, 0, 192, 0, 51, 78, 27, 45, 180, 0, 186, 182, 0, 85, 96, 60, 167, 255, 227, 27, 172]
abbrev dktX2_reasons_1 : List UInt8 := dkwX2_reasons_1 ++ []
def dkwX2_reasons_0 : List UInt8 := [3, 60, 42, 180, 0, 27, 182, 0, 31, 77, 44, 185, 0, 35, 1, 0, 153, 0, 26, 44]
abbrev dktX2_reasons_0 : List UInt8 := dkwX2_reasons_0 ++ dktX2_reasons_1
theorem dksX2_reasons_0 : cX2_reasons.data.toList.drop 0 = dktX2_reasons_0 := by decide +kernel
theorem dksX2_reasons_1 : cX2_reasons.data.toList.drop 20 = dktX2_reasons_1 := dk_seg dksX2_reasons_0 20 rfl rfl
theorem dX2_reasons_0 : decode cX2_reasons 0 = .ok (.iconst 0, 1) := dk_3 (dk_at dksX2_reasons_0 0 rfl rfl)
theorem dX2_reasons_1 : decode cX2_reasons 1 = .ok (.istore_n 1, 1) := dk_60 (dk_at dksX2_reasons_0 1 rfl rfl)
theorem dX2_reasons_2 : decode cX2_reasons 2 = .ok (.aload_n 0, 1) := dk_42 (dk_at dksX2_reasons_0 2 rfl rfl)
theorem dX2_reasons_3 : decode cX2_reasons 3 = .ok (.getfield 27, 3) := dk_180 0 27 (dk_at dksX2_reasons_0 3 rfl rfl)
theorem dX2_reasons_6 : decode cX2_reasons 6 = .ok (.invokevirtual 31, 3) := dk_182 0 31 (dk_at dksX2_reasons_0 6 rfl rfl)
theorem dX2_reasons_9 : decode cX2_reasons 9 = .ok (.astore_n 2, 1) := dk_77 (dk_at dksX2_reasons_0 9 rfl rfl)
theorem dX2_reasons_10 : decode cX2_reasons 10 = .ok (.aload_n 2, 1) := dk_44 (dk_at dksX2_reasons_0 10 rfl rfl)
theorem dX2_reasons_11 : decode cX2_reasons 11 = .ok (.invokeinterface 35 1, 5) := by decide +kernel
theorem dX2_reasons_16 : decode cX2_reasons 16 = .ok (.ifCond .eq 26, 3) := dk_153 0 26 (dk_at dksX2_reasons_0 16 rfl rfl)
theorem dX2_reasons_19 : decode cX2_reasons 19 = .ok (.aload_n 2, 1) := dk_44 (dk_at dksX2_reasons_0 19 rfl rfl)
theorem dX2_reasons_20 : decode cX2_reasons 20 = .ok (.invokeinterface 41 1, 5) := by decide +kernel
theorem dX2_reasons_25 : decode cX2_reasons 25 = .ok (.checkcast 51, 3) := dk_192 0 51 (dk_at dksX2_reasons_1 5 rfl rfl)
theorem dX2_reasons_28 : decode cX2_reasons 28 = .ok (.astore_n 3, 1) := dk_78 (dk_at dksX2_reasons_1 8 rfl rfl)
theorem dX2_reasons_29 : decode cX2_reasons 29 = .ok (.iload_n 1, 1) := dk_27 (dk_at dksX2_reasons_1 9 rfl rfl)
theorem dX2_reasons_30 : decode cX2_reasons 30 = .ok (.aload_n 3, 1) := dk_45 (dk_at dksX2_reasons_1 10 rfl rfl)
theorem dX2_reasons_31 : decode cX2_reasons 31 = .ok (.getfield 186, 3) := dk_180 0 186 (dk_at dksX2_reasons_1 11 rfl rfl)
theorem dX2_reasons_34 : decode cX2_reasons 34 = .ok (.invokevirtual 85, 3) := dk_182 0 85 (dk_at dksX2_reasons_1 14 rfl rfl)
theorem dX2_reasons_37 : decode cX2_reasons 37 = .ok (.iadd, 1) := dk_96 (dk_at dksX2_reasons_1 17 rfl rfl)
theorem dX2_reasons_38 : decode cX2_reasons 38 = .ok (.istore_n 1, 1) := dk_60 (dk_at dksX2_reasons_1 18 rfl rfl)
theorem dX2_reasons_39 : decode cX2_reasons 39 = .ok (.goto (-29), 3) := dk_167 255 227 (dk_at dksX2_reasons_1 19 rfl rfl)
theorem dX2_reasons_42 : decode cX2_reasons 42 = .ok (.iload_n 1, 1) := dk_27 (dk_at dksX2_reasons_1 22 rfl rfl)
theorem dX2_reasons_43 : decode cX2_reasons 43 = .ok (.ireturn, 1) := dk_172 (dk_at dksX2_reasons_1 23 rfl rfl)
theorem q98 : (Jvm.Cond.initialized "MatchmakerRules$Book") ∈ lw_all := lw_g (lw_at lw_m1 2 rfl) rfl
theorem q149 : (Jvm.Cond.instantiable "MatchmakerRules$Book" (7 : Nat)) ∈ lw_all := lw_g (lw_at lw_m1 53 rfl) rfl
theorem q151 : (Jvm.Cond.instanceMethod ({ cls := "MatchmakerRules$Book", name := "<init>", desc := "()V" } : Jvm.MethodName)) ∈ lw_all := lw_g (lw_at lw_m1 55 rfl) rfl
theorem q152 : (Jvm.Cond.code ({ cls := "MatchmakerRules$Book", name := "<init>", desc := "()V" } : Jvm.MethodName) prog_2_method_1_code (1 : Nat) (Option.none : Option Jvm.ClassFile.FieldType)) ∈ lw_all := lw_g (lw_at lw_m1 56 rfl) rfl
theorem q153 : (Jvm.Cond.methodLink "MatchmakerRules$Book" (3 : Nat) ({ cls := "java/lang/Object", name := "<init>", desc := "()V" } : Jvm.MethodName)) ∈ lw_all := lw_g (lw_at lw_m1 57 rfl) rfl
theorem q154 : (Jvm.Cond.classLink "MatchmakerRules$Book" (9 : Nat) "MatchmakerRules$Book$Walk") ∈ lw_all := lw_g (lw_at lw_m1 58 rfl) rfl
theorem q156 : (Jvm.Cond.methodLinkNest "MatchmakerRules$Book" (11 : Nat) ({ cls := "MatchmakerRules$Book$Walk", name := "<init>", desc := "(LMatchmakerRules$Book;)V" } : Jvm.MethodName) "MatchmakerRules") ∈ lw_tbl := lw_at lw_m1 60 rfl
theorem q161 : (Jvm.Cond.fieldLinkNest "MatchmakerRules$Book" (127 : Nat) "MatchmakerRules$Book$Walk" "rule" "LMatchmakerRules$Rule;" "MatchmakerRules") ∈ lw_tbl := lw_at lw_m1 65 rfl
theorem q167 : (Jvm.Cond.fieldLinkNest "MatchmakerRules$Book" (131 : Nat) "MatchmakerRules$Book$Walk" "first" "LMatchmakerRules$Fact;" "MatchmakerRules") ∈ lw_tbl := lw_at lw_m1 71 rfl
theorem q169 : (Jvm.Cond.fieldLinkNest "MatchmakerRules$Book" (135 : Nat) "MatchmakerRules$Book$Walk" "second" "I" "MatchmakerRules") ∈ lw_tbl := lw_at lw_m1 73 rfl
theorem q189 : (Jvm.Cond.classLink "MatchmakerRules$Book" (20 : Nat) "java/util/ArrayList") ∈ lw_all := lw_g (lw_at lw_m1 93 rfl) rfl
theorem q191 : (Jvm.Cond.methodLink "MatchmakerRules$Book" (22 : Nat) ({ cls := "java/util/ArrayList", name := "<init>", desc := "()V" } : Jvm.MethodName)) ∈ lw_all := lw_g (lw_at lw_m1 95 rfl) rfl
theorem q218 : (Jvm.Cond.fieldLink "MatchmakerRules$Book" (14 : Nat) "MatchmakerRules$Book" "walks" "LMatchmakerRules$Book$Walk;") ∈ lw_all := lw_g (lw_at lw_m1 122 rfl) rfl
theorem q219 : (Jvm.Cond.fieldLink "MatchmakerRules$Book" (23 : Nat) "MatchmakerRules$Book" "rules" "Ljava/util/ArrayList;") ∈ lw_all := lw_g (lw_at lw_m1 123 rfl) rfl
theorem q222 : (Jvm.Cond.fieldLink "MatchmakerRules$Book" (27 : Nat) "MatchmakerRules$Book" "facts" "Ljava/util/ArrayList;") ∈ lw_all := lw_g (lw_at lw_m1 126 rfl) rfl
theorem q225 : (Jvm.Cond.fieldLink "MatchmakerRules$Book" (57 : Nat) "MatchmakerRules$Book" "came" "I") ∈ lw_all := lw_g (lw_at lw_m1 129 rfl) rfl
theorem q227 : (Jvm.Cond.fieldLink "MatchmakerRules$Book" (61 : Nat) "MatchmakerRules$Book" "gone" "I") ∈ lw_all := lw_g (lw_at lw_m1 131 rfl) rfl
theorem q229 : (Jvm.Cond.fieldLink "MatchmakerRules$Book" (64 : Nat) "MatchmakerRules$Book" "firings" "I") ∈ lw_all := lw_g (lw_at lw_m1 133 rfl) rfl
theorem q231 : (Jvm.Cond.fieldLink "MatchmakerRules$Book" (67 : Nat) "MatchmakerRules$Book" "idle" "I") ∈ lw_all := lw_g (lw_at lw_m1 135 rfl) rfl
theorem q233 : (Jvm.Cond.laysFinal "MatchmakerRules$Book" "MatchmakerRules$Book" "walks" "LMatchmakerRules$Book$Walk;") ∈ lw_all := lw_g (lw_at lw_m1 137 rfl) rfl
theorem q234 : (Jvm.Cond.soleField "MatchmakerRules$Book" "walks") ∈ lw_all := lw_g (lw_at lw_m1 138 rfl) rfl
theorem q235 : (Jvm.Cond.laysFinal "MatchmakerRules$Book" "MatchmakerRules$Book" "rules" "Ljava/util/ArrayList;") ∈ lw_all := lw_g (lw_at lw_m1 139 rfl) rfl
theorem q236 : (Jvm.Cond.soleField "MatchmakerRules$Book" "rules") ∈ lw_all := lw_g (lw_at lw_m1 140 rfl) rfl
theorem q237 : (Jvm.Cond.laysFinal "MatchmakerRules$Book" "MatchmakerRules$Book" "facts" "Ljava/util/ArrayList;") ∈ lw_all := lw_g (lw_at lw_m1 141 rfl) rfl
theorem q238 : (Jvm.Cond.soleField "MatchmakerRules$Book" "facts") ∈ lw_all := lw_g (lw_at lw_m1 142 rfl) rfl
theorem q239 : (Jvm.Cond.lays "MatchmakerRules$Book" "MatchmakerRules$Book" "came" "I") ∈ lw_all := lw_g (lw_at lw_m1 143 rfl) rfl
theorem q240 : (Jvm.Cond.soleField "MatchmakerRules$Book" "came") ∈ lw_all := lw_g (lw_at lw_m1 144 rfl) rfl
theorem q241 : (Jvm.Cond.lays "MatchmakerRules$Book" "MatchmakerRules$Book" "gone" "I") ∈ lw_all := lw_g (lw_at lw_m1 145 rfl) rfl
theorem q242 : (Jvm.Cond.soleField "MatchmakerRules$Book" "gone") ∈ lw_all := lw_g (lw_at lw_m1 146 rfl) rfl
theorem q243 : (Jvm.Cond.lays "MatchmakerRules$Book" "MatchmakerRules$Book" "firings" "I") ∈ lw_all := lw_g (lw_at lw_m1 147 rfl) rfl
theorem q244 : (Jvm.Cond.soleField "MatchmakerRules$Book" "firings") ∈ lw_all := lw_g (lw_at lw_m1 148 rfl) rfl
theorem q245 : (Jvm.Cond.lays "MatchmakerRules$Book" "MatchmakerRules$Book" "idle" "I") ∈ lw_all := lw_g (lw_at lw_m1 149 rfl) rfl
theorem q246 : (Jvm.Cond.soleField "MatchmakerRules$Book" "idle") ∈ lw_all := lw_g (lw_at lw_m1 150 rfl) rfl
theorem q247 : (Jvm.Cond.superclass "MatchmakerRules$Book" "java/lang/Object") ∈ lw_all := lw_g (lw_at lw_m1 151 rfl) rfl
theorem q348 : (Jvm.Cond.instanceMethod ({ cls := "MatchmakerRules$Book", name := "dueAgain", desc := "()I" } : Jvm.MethodName)) ∈ lw_all := lw_g (lw_at lw_m2 12 rfl) rfl
theorem q349 : (Jvm.Cond.selects "MatchmakerRules$Book" ({ cls := "MatchmakerRules$Book", name := "dueAgain", desc := "()I" } : Jvm.MethodName) ({ cls := "MatchmakerRules$Book", name := "dueAgain", desc := "()I" } : Jvm.MethodName)) ∈ lw_all := lw_g (lw_at lw_m2 13 rfl) rfl
theorem q350 : (Jvm.Cond.code ({ cls := "MatchmakerRules$Book", name := "dueAgain", desc := "()I" } : Jvm.MethodName) prog_2_method_10_code (6 : Nat) (Option.some Jvm.ClassFile.FieldType.int)) ∈ lw_all := lw_g (lw_at lw_m2 14 rfl) rfl
theorem q351 : (Jvm.Cond.methodLink "MatchmakerRules$Book" (31 : Nat) ({ cls := "java/util/ArrayList", name := "iterator", desc := "()Ljava/util/Iterator;" } : Jvm.MethodName)) ∈ lw_all := lw_g (lw_at lw_m2 15 rfl) rfl
theorem q374 : (Jvm.Cond.interfaceEntry "MatchmakerRules$Book" (35 : Nat)) ∈ lw_tbl := lw_at lw_m2 38 rfl
theorem q375 : (Jvm.Cond.methodLink "MatchmakerRules$Book" (35 : Nat) ({ cls := "java/util/Iterator", name := "hasNext", desc := "()Z" } : Jvm.MethodName)) ∈ lw_all := lw_g (lw_at lw_m2 39 rfl) rfl
theorem q384 : (Jvm.Cond.interfaceEntry "MatchmakerRules$Book" (41 : Nat)) ∈ lw_tbl := lw_at lw_m2 48 rfl
theorem q385 : (Jvm.Cond.methodLink "MatchmakerRules$Book" (41 : Nat) ({ cls := "java/util/Iterator", name := "next", desc := "()Ljava/lang/Object;" } : Jvm.MethodName)) ∈ lw_all := lw_g (lw_at lw_m2 49 rfl) rfl
theorem q469 : (Jvm.Cond.classLink "MatchmakerRules$Book" (51 : Nat) "MatchmakerRules$Fact") ∈ lw_all := lw_g (lw_at lw_m2 133 rfl) rfl
theorem q470 : (Jvm.Cond.methodLink "MatchmakerRules$Book" (85 : Nat) ({ cls := "java/util/ArrayList", name := "size", desc := "()I" } : Jvm.MethodName)) ∈ lw_all := lw_g (lw_at lw_m2 134 rfl) rfl
theorem q471 : (Jvm.Cond.methodLink "MatchmakerRules$Book" (96 : Nat) ({ cls := "java/util/ArrayList", name := "get", desc := "(I)Ljava/lang/Object;" } : Jvm.MethodName)) ∈ lw_all := lw_g (lw_at lw_m2 135 rfl) rfl
theorem q485 : (Jvm.Cond.classLink "MatchmakerRules$Book" (45 : Nat) "MatchmakerRules$Rule") ∈ lw_all := lw_g (lw_at lw_m2 149 rfl) rfl
theorem q486 : (Jvm.Cond.methodLink "MatchmakerRules$Book" (100 : Nat) ({ cls := "MatchmakerRules$Book$Walk", name := "begin", desc := "(LMatchmakerRules$Rule;)LMatchmakerRules$Book$Walk;" } : Jvm.MethodName)) ∈ lw_all := lw_g (lw_at lw_m2 150 rfl) rfl
theorem q490 : (Jvm.Cond.methodLink "MatchmakerRules$Book" (104 : Nat) ({ cls := "MatchmakerRules$Book$Walk", name := "goesOn", desc := "()Z" } : Jvm.MethodName)) ∈ lw_all := lw_g (lw_at lw_m2 154 rfl) rfl
theorem q502 : (Jvm.Cond.static ({ cls := "MatchmakerRules$Book", name := "free", desc := "([I)V" } : Jvm.MethodName)) ∈ lw_all := lw_g (lw_at lw_m2 166 rfl) rfl
theorem q503 : (Jvm.Cond.code ({ cls := "MatchmakerRules$Book", name := "free", desc := "([I)V" } : Jvm.MethodName) prog_2_method_7_code (2 : Nat) (Option.none : Option Jvm.ClassFile.FieldType)) ∈ lw_all := lw_g (lw_at lw_m2 167 rfl) rfl
theorem q528 : (Jvm.Cond.methodLink "MatchmakerRules$Book" (110 : Nat) ({ cls := "MatchmakerRules$Book$Walk", name := "newest", desc := "()I" } : Jvm.MethodName)) ∈ lw_all := lw_g (lw_at lw_m2 192 rfl) rfl
theorem q535 : (Jvm.Cond.methodLink "MatchmakerRules$Book" (107 : Nat) ({ cls := "MatchmakerRules$Book$Walk", name := "isDue", desc := "()Z" } : Jvm.MethodName)) ∈ lw_all := lw_g (lw_at lw_m2 199 rfl) rfl
theorem q541 : (Jvm.Cond.instanceMethod ({ cls := "MatchmakerRules$Book", name := "due", desc := "()I" } : Jvm.MethodName)) ∈ lw_all := lw_g (lw_at lw_m2 205 rfl) rfl
theorem q542 : (Jvm.Cond.selects "MatchmakerRules$Book" ({ cls := "MatchmakerRules$Book", name := "due", desc := "()I" } : Jvm.MethodName) ({ cls := "MatchmakerRules$Book", name := "due", desc := "()I" } : Jvm.MethodName)) ∈ lw_all := lw_g (lw_at lw_m2 206 rfl) rfl
theorem q543 : (Jvm.Cond.code ({ cls := "MatchmakerRules$Book", name := "due", desc := "()I" } : Jvm.MethodName) prog_2_method_9_code (5 : Nat) (Option.some Jvm.ClassFile.FieldType.int)) ∈ lw_all := lw_g (lw_at lw_m2 207 rfl) rfl
theorem q549 : (Jvm.Cond.instanceMethod ({ cls := "MatchmakerRules$Book", name := "isInOrder", desc := "()Z" } : Jvm.MethodName)) ∈ lw_all := lw_g (lw_at lw_m2 213 rfl) rfl
theorem q550 : (Jvm.Cond.selects "MatchmakerRules$Book" ({ cls := "MatchmakerRules$Book", name := "isInOrder", desc := "()Z" } : Jvm.MethodName) ({ cls := "MatchmakerRules$Book", name := "isInOrder", desc := "()Z" } : Jvm.MethodName)) ∈ lw_all := lw_g (lw_at lw_m2 214 rfl) rfl
theorem q551 : (Jvm.Cond.code ({ cls := "MatchmakerRules$Book", name := "isInOrder", desc := "()Z" } : Jvm.MethodName) prog_2_method_35_code (6 : Nat) (Option.some Jvm.ClassFile.FieldType.boolean)) ∈ lw_all := lw_g (lw_at lw_m2 215 rfl) rfl
theorem q552 : (Jvm.Cond.methodLink "MatchmakerRules$Book" (279 : Nat) ({ cls := "MatchmakerRules$Book", name := "greatestDepth", desc := "()I" } : Jvm.MethodName)) ∈ lw_all := lw_g (lw_at lw_m2 216 rfl) rfl
theorem q553 : (Jvm.Cond.instanceMethod ({ cls := "MatchmakerRules$Book", name := "greatestDepth", desc := "()I" } : Jvm.MethodName)) ∈ lw_all := lw_g (lw_at lw_m2 217 rfl) rfl
theorem q554 : (Jvm.Cond.selects "MatchmakerRules$Book" ({ cls := "MatchmakerRules$Book", name := "greatestDepth", desc := "()I" } : Jvm.MethodName) ({ cls := "MatchmakerRules$Book", name := "greatestDepth", desc := "()I" } : Jvm.MethodName)) ∈ lw_all := lw_g (lw_at lw_m2 218 rfl) rfl
theorem q555 : (Jvm.Cond.code ({ cls := "MatchmakerRules$Book", name := "greatestDepth", desc := "()I" } : Jvm.MethodName) prog_2_method_22_code (6 : Nat) (Option.some Jvm.ClassFile.FieldType.int)) ∈ lw_all := lw_g (lw_at lw_m2 219 rfl) rfl
theorem q556 : (Jvm.Cond.methodLink "MatchmakerRules$Book" (234 : Nat) ({ cls := "MatchmakerRules$Book", name := "depths", desc := "()[I" } : Jvm.MethodName)) ∈ lw_all := lw_g (lw_at lw_m2 220 rfl) rfl
theorem q557 : (Jvm.Cond.instanceMethod ({ cls := "MatchmakerRules$Book", name := "depths", desc := "()[I" } : Jvm.MethodName)) ∈ lw_all := lw_g (lw_at lw_m2 221 rfl) rfl
theorem q558 : (Jvm.Cond.selects "MatchmakerRules$Book" ({ cls := "MatchmakerRules$Book", name := "depths", desc := "()[I" } : Jvm.MethodName) ({ cls := "MatchmakerRules$Book", name := "depths", desc := "()[I" } : Jvm.MethodName)) ∈ lw_all := lw_g (lw_at lw_m2 222 rfl) rfl
theorem q559 : (Jvm.Cond.code ({ cls := "MatchmakerRules$Book", name := "depths", desc := "()[I" } : Jvm.MethodName) prog_2_method_19_code (7 : Nat) (Option.some (Jvm.ClassFile.FieldType.array Jvm.ClassFile.FieldType.int))) ∈ lw_all := lw_g (lw_at lw_m2 223 rfl) rfl
theorem q560 : (Jvm.Cond.classLink "MatchmakerRules$Book" (113 : Nat) "MatchmakerRules$Firing") ∈ lw_all := lw_g (lw_at lw_m2 224 rfl) rfl
theorem q561 : (Jvm.Cond.methodLink "MatchmakerRules$Book" (218 : Nat) ({ cls := "MatchmakerRules$Book", name := "depth", desc := "(I[I)I" } : Jvm.MethodName)) ∈ lw_all := lw_g (lw_at lw_m2 225 rfl) rfl
theorem q562 : (Jvm.Cond.privateMethod ({ cls := "MatchmakerRules$Book", name := "depth", desc := "(I[I)I" } : Jvm.MethodName)) ∈ lw_tbl := lw_at lw_m2 226 rfl
theorem q563 : (Jvm.Cond.instanceMethod ({ cls := "MatchmakerRules$Book", name := "depth", desc := "(I[I)I" } : Jvm.MethodName)) ∈ lw_all := lw_g (lw_at lw_m2 227 rfl) rfl
theorem q564 : (Jvm.Cond.code ({ cls := "MatchmakerRules$Book", name := "depth", desc := "(I[I)I" } : Jvm.MethodName) prog_2_method_20_code (3 : Nat) (Option.some Jvm.ClassFile.FieldType.int)) ∈ lw_all := lw_g (lw_at lw_m2 228 rfl) rfl
theorem q565 : (Jvm.Cond.methodLink "MatchmakerRules$Book" (77 : Nat) ({ cls := "MatchmakerRules$Book", name := "find", desc := "(I)LMatchmakerRules$Fact;" } : Jvm.MethodName)) ∈ lw_all := lw_g (lw_at lw_m2 229 rfl) rfl
theorem q566 : (Jvm.Cond.instanceMethod ({ cls := "MatchmakerRules$Book", name := "find", desc := "(I)LMatchmakerRules$Fact;" } : Jvm.MethodName)) ∈ lw_all := lw_g (lw_at lw_m2 230 rfl) rfl
theorem q567 : (Jvm.Cond.selects "MatchmakerRules$Book" ({ cls := "MatchmakerRules$Book", name := "find", desc := "(I)LMatchmakerRules$Fact;" } : Jvm.MethodName) ({ cls := "MatchmakerRules$Book", name := "find", desc := "(I)LMatchmakerRules$Fact;" } : Jvm.MethodName)) ∈ lw_all := lw_g (lw_at lw_m2 231 rfl) rfl
theorem q568 : (Jvm.Cond.code ({ cls := "MatchmakerRules$Book", name := "find", desc := "(I)LMatchmakerRules$Fact;" } : Jvm.MethodName) prog_2_method_4_code (4 : Nat) (Option.some (Jvm.ClassFile.FieldType.object "MatchmakerRules$Fact"))) ∈ lw_all := lw_g (lw_at lw_m2 232 rfl) rfl
theorem q569 : (Jvm.Cond.methodLink "MatchmakerRules$Book" (230 : Nat) ({ cls := "java/util/ArrayList", name := "indexOf", desc := "(Ljava/lang/Object;)I" } : Jvm.MethodName)) ∈ lw_all := lw_g (lw_at lw_m2 233 rfl) rfl
theorem q582 : (Jvm.Cond.selects "MatchmakerRules$Book" ({ cls := "java/lang/Object", name := "equals", desc := "(Ljava/lang/Object;)Z" } : Jvm.MethodName) ({ cls := "java/lang/Object", name := "equals", desc := "(Ljava/lang/Object;)Z" } : Jvm.MethodName)) ∈ lw_all := lw_g (lw_at lw_m3 6 rfl) rfl
theorem q610 : (Jvm.Cond.methodLink "MatchmakerRules$Book" (221 : Nat) ({ cls := "java/lang/Math", name := "max", desc := "(II)I" } : Jvm.MethodName)) ∈ lw_all := lw_g (lw_at lw_m3 34 rfl) rfl
theorem q611 : (Jvm.Cond.methodLink "MatchmakerRules$Book" (227 : Nat) ({ cls := "java/lang/Math", name := "min", desc := "(II)I" } : Jvm.MethodName)) ∈ lw_all := lw_g (lw_at lw_m3 35 rfl) rfl
theorem q614 : (Jvm.Cond.methodLink "MatchmakerRules$Book" (172 : Nat) ({ cls := "MatchmakerRules$Book", name := "find", desc := "(CII)LMatchmakerRules$Fact;" } : Jvm.MethodName)) ∈ lw_all := lw_g (lw_at lw_m3 38 rfl) rfl
theorem q615 : (Jvm.Cond.instanceMethod ({ cls := "MatchmakerRules$Book", name := "find", desc := "(CII)LMatchmakerRules$Fact;" } : Jvm.MethodName)) ∈ lw_all := lw_g (lw_at lw_m3 39 rfl) rfl
theorem q616 : (Jvm.Cond.selects "MatchmakerRules$Book" ({ cls := "MatchmakerRules$Book", name := "find", desc := "(CII)LMatchmakerRules$Fact;" } : Jvm.MethodName) ({ cls := "MatchmakerRules$Book", name := "find", desc := "(CII)LMatchmakerRules$Fact;" } : Jvm.MethodName)) ∈ lw_all := lw_g (lw_at lw_m3 40 rfl) rfl
theorem q617 : (Jvm.Cond.code ({ cls := "MatchmakerRules$Book", name := "find", desc := "(CII)LMatchmakerRules$Fact;" } : Jvm.MethodName) prog_2_method_3_code (6 : Nat) (Option.some (Jvm.ClassFile.FieldType.object "MatchmakerRules$Fact"))) ∈ lw_all := lw_g (lw_at lw_m3 41 rfl) rfl
theorem q618 : (Jvm.Cond.methodLink "MatchmakerRules$Book" (70 : Nat) ({ cls := "MatchmakerRules$Fact", name := "is", desc := "(CII)Z" } : Jvm.MethodName)) ∈ lw_all := lw_g (lw_at lw_m3 42 rfl) rfl
theorem q622 : (Jvm.Cond.methodLink "MatchmakerRules$Book" (285 : Nat) ({ cls := "MatchmakerRules$Book", name := "isThere", desc := "(I)Z" } : Jvm.MethodName)) ∈ lw_all := lw_g (lw_at lw_m3 46 rfl) rfl
theorem q623 : (Jvm.Cond.privateMethod ({ cls := "MatchmakerRules$Book", name := "isThere", desc := "(I)Z" } : Jvm.MethodName)) ∈ lw_tbl := lw_at lw_m3 47 rfl
theorem q624 : (Jvm.Cond.instanceMethod ({ cls := "MatchmakerRules$Book", name := "isThere", desc := "(I)Z" } : Jvm.MethodName)) ∈ lw_all := lw_g (lw_at lw_m3 48 rfl) rfl
theorem q625 : (Jvm.Cond.code ({ cls := "MatchmakerRules$Book", name := "isThere", desc := "(I)Z" } : Jvm.MethodName) prog_2_method_34_code (2 : Nat) (Option.some Jvm.ClassFile.FieldType.boolean)) ∈ lw_all := lw_g (lw_at lw_m3 49 rfl) rfl
theorem q626 : (Jvm.Cond.static ({ cls := "MatchmakerRules$Book", name := "lambda$isInOrder$5", desc := "(LMatchmakerRules$Firing;LMatchmakerRules$Firing;)Z" } : Jvm.MethodName)) ∈ lw_all := lw_g (lw_at lw_m3 50 rfl) rfl
theorem q627 : (Jvm.Cond.code ({ cls := "MatchmakerRules$Book", name := "lambda$isInOrder$5", desc := "(LMatchmakerRules$Firing;LMatchmakerRules$Firing;)Z" } : Jvm.MethodName) prog_2_method_39_code (2 : Nat) (Option.some Jvm.ClassFile.FieldType.boolean)) ∈ lw_all := lw_g (lw_at lw_m3 51 rfl) rfl
theorem q628 : (Jvm.Cond.methodLink "MatchmakerRules$Book" (318 : Nat) ({ cls := "MatchmakerRules$Firing", name := "isLike", desc := "(LMatchmakerRules$Firing;)Z" } : Jvm.MethodName)) ∈ lw_all := lw_g (lw_at lw_m3 52 rfl) rfl
theorem q632 : (Jvm.Cond.methodLinkNest "MatchmakerRules$Book" (271 : Nat) ({ cls := "MatchmakerRules", name := "count", desc := "(Ljava/util/ArrayList;LMatchmakerRules$Test;)I" } : Jvm.MethodName) "MatchmakerRules") ∈ lw_tbl := lw_at lw_m3 56 rfl
theorem q829 : (Jvm.Cond.fieldLinkNest "MatchmakerRules$Book" (168 : Nat) "MatchmakerRules$Pattern" "kind" "C" "MatchmakerRules") ∈ lw_tbl := lw_at lw_m4 13 rfl
theorem q848 : (Jvm.Cond.fieldLinkNest "MatchmakerRules$Book" (150 : Nat) "MatchmakerRules$Rule" "first" "LMatchmakerRules$Pattern;" "MatchmakerRules") ∈ lw_tbl := lw_at lw_m4 32 rfl
theorem q851 : (Jvm.Cond.fieldLinkNest "MatchmakerRules$Book" (159 : Nat) "MatchmakerRules$Rule" "second" "LMatchmakerRules$Pattern;" "MatchmakerRules") ∈ lw_tbl := lw_at lw_m4 35 rfl
theorem q855 : (Jvm.Cond.fieldLinkNest "MatchmakerRules$Book" (161 : Nat) "MatchmakerRules$Rule" "conclusion" "LMatchmakerRules$Pattern;" "MatchmakerRules") ∈ lw_tbl := lw_at lw_m4 39 rfl
theorem q904 : (Jvm.Cond.instanceMethod ({ cls := "MatchmakerRules$Book", name := "copy", desc := "()LMatchmakerRules$Book;" } : Jvm.MethodName)) ∈ lw_all := lw_g (lw_at lw_m4 88 rfl) rfl
theorem q905 : (Jvm.Cond.selects "MatchmakerRules$Book" ({ cls := "MatchmakerRules$Book", name := "copy", desc := "()LMatchmakerRules$Book;" } : Jvm.MethodName) ({ cls := "MatchmakerRules$Book", name := "copy", desc := "()LMatchmakerRules$Book;" } : Jvm.MethodName)) ∈ lw_all := lw_g (lw_at lw_m4 89 rfl) rfl
theorem q906 : (Jvm.Cond.code ({ cls := "MatchmakerRules$Book", name := "copy", desc := "()LMatchmakerRules$Book;" } : Jvm.MethodName) prog_2_method_2_code (5 : Nat) (Option.some (Jvm.ClassFile.FieldType.object "MatchmakerRules$Book"))) ∈ lw_all := lw_g (lw_at lw_m4 90 rfl) rfl
theorem q907 : (Jvm.Cond.classLink "MatchmakerRules$Book" (15 : Nat) "MatchmakerRules$Book") ∈ lw_all := lw_g (lw_at lw_m4 91 rfl) rfl
theorem q908 : (Jvm.Cond.methodLink "MatchmakerRules$Book" (30 : Nat) ({ cls := "MatchmakerRules$Book", name := "<init>", desc := "()V" } : Jvm.MethodName)) ∈ lw_all := lw_g (lw_at lw_m4 92 rfl) rfl
theorem q909 : (Jvm.Cond.methodLink "MatchmakerRules$Book" (47 : Nat) ({ cls := "java/util/ArrayList", name := "add", desc := "(Ljava/lang/Object;)Z" } : Jvm.MethodName)) ∈ lw_all := lw_g (lw_at lw_m4 93 rfl) rfl
theorem q940 : (Jvm.Cond.selects "MatchmakerRules$Book" ({ cls := "java/lang/Object", name := "getClass", desc := "()Ljava/lang/Class;" } : Jvm.MethodName) ({ cls := "java/lang/Object", name := "getClass", desc := "()Ljava/lang/Class;" } : Jvm.MethodName)) ∈ lw_all := lw_g (lw_at lw_m4 124 rfl) rfl
theorem q975 : (Jvm.Cond.methodLink "MatchmakerRules$Book" (53 : Nat) ({ cls := "MatchmakerRules$Fact", name := "copy", desc := "()LMatchmakerRules$Fact;" } : Jvm.MethodName)) ∈ lw_all := lw_g (lw_at lw_m4 159 rfl) rfl
theorem q988 : (Jvm.Cond.fieldLinkNest "MatchmakerRules$Book" (74 : Nat) "MatchmakerRules$Fact" "number" "I" "MatchmakerRules") ∈ lw_tbl := lw_at lw_m4 172 rfl
theorem q994 : (Jvm.Cond.fieldLinkNest "MatchmakerRules$Book" (282 : Nat) "MatchmakerRules$Fact" "kind" "C" "MatchmakerRules") ∈ lw_tbl := lw_at lw_m4 178 rfl
theorem q998 : (Jvm.Cond.fieldLinkNest "MatchmakerRules$Book" (283 : Nat) "MatchmakerRules$Fact" "first" "I" "MatchmakerRules") ∈ lw_tbl := lw_at lw_m4 182 rfl
theorem q1002 : (Jvm.Cond.fieldLinkNest "MatchmakerRules$Book" (284 : Nat) "MatchmakerRules$Fact" "second" "I" "MatchmakerRules") ∈ lw_tbl := lw_at lw_m4 186 rfl
theorem q1004 : (Jvm.Cond.fieldLinkNest "MatchmakerRules$Book" (175 : Nat) "MatchmakerRules$Fact" "trust" "F" "MatchmakerRules") ∈ lw_tbl := lw_at lw_m4 188 rfl
theorem q1009 : (Jvm.Cond.fieldLinkNest "MatchmakerRules$Book" (214 : Nat) "MatchmakerRules$Fact" "isTold" "Z" "MatchmakerRules") ∈ lw_tbl := lw_at lw_m4 193 rfl
theorem q1012 : (Jvm.Cond.fieldLinkNest "MatchmakerRules$Book" (186 : Nat) "MatchmakerRules$Fact" "reasons" "Ljava/util/ArrayList;" "MatchmakerRules") ∈ lw_tbl := lw_at lw_m4 196 rfl
theorem q1016 : (Jvm.Cond.fieldLinkNest "MatchmakerRules$Book" (183 : Nat) "MatchmakerRules$Fact" "fired" "Ljava/util/ArrayList;" "MatchmakerRules") ∈ lw_tbl := lw_at lw_m4 200 rfl
theorem q1048 : (Jvm.Cond.instanceMethod ({ cls := "MatchmakerRules$Book", name := "add", desc := "(LMatchmakerRules$Rule;)I" } : Jvm.MethodName)) ∈ lw_all := lw_g (lw_at lw_m4 232 rfl) rfl
theorem q1049 : (Jvm.Cond.selects "MatchmakerRules$Book" ({ cls := "MatchmakerRules$Book", name := "add", desc := "(LMatchmakerRules$Rule;)I" } : Jvm.MethodName) ({ cls := "MatchmakerRules$Book", name := "add", desc := "(LMatchmakerRules$Rule;)I" } : Jvm.MethodName)) ∈ lw_all := lw_g (lw_at lw_m4 233 rfl) rfl
theorem q1050 : (Jvm.Cond.code ({ cls := "MatchmakerRules$Book", name := "add", desc := "(LMatchmakerRules$Rule;)I" } : Jvm.MethodName) prog_2_method_24_code (3 : Nat) (Option.some Jvm.ClassFile.FieldType.int)) ∈ lw_all := lw_g (lw_at lw_m4 234 rfl) rfl
theorem q1051 : (Jvm.Cond.methodLink "MatchmakerRules$Book" (196 : Nat) ({ cls := "MatchmakerRules$Refused", name := "check", desc := "(ZII)V" } : Jvm.MethodName)) ∈ lw_all := lw_g (lw_at lw_m4 235 rfl) rfl
theorem q1078 : (Jvm.Cond.instanceMethod ({ cls := "MatchmakerRules$Book", name := "drop", desc := "(I)I" } : Jvm.MethodName)) ∈ lw_all := lw_g (lw_at lw_m5 22 rfl) rfl
theorem q1079 : (Jvm.Cond.selects "MatchmakerRules$Book" ({ cls := "MatchmakerRules$Book", name := "drop", desc := "(I)I" } : Jvm.MethodName) ({ cls := "MatchmakerRules$Book", name := "drop", desc := "(I)I" } : Jvm.MethodName)) ∈ lw_all := lw_g (lw_at lw_m5 23 rfl) rfl
theorem q1080 : (Jvm.Cond.code ({ cls := "MatchmakerRules$Book", name := "drop", desc := "(I)I" } : Jvm.MethodName) prog_2_method_25_code (5 : Nat) (Option.some Jvm.ClassFile.FieldType.int)) ∈ lw_all := lw_g (lw_at lw_m5 24 rfl) rfl
theorem q1081 : (Jvm.Cond.methodLinkNest "MatchmakerRules$Book" (89 : Nat) ({ cls := "MatchmakerRules", name := "inRange", desc := "(JJJ)Z" } : Jvm.MethodName) "MatchmakerRules") ∈ lw_tbl := lw_at lw_m5 25 rfl
theorem q1082 : (Jvm.Cond.methodLink "MatchmakerRules$Book" (238 : Nat) ({ cls := "java/util/ArrayList", name := "remove", desc := "(I)Ljava/lang/Object;" } : Jvm.MethodName)) ∈ lw_all := lw_g (lw_at lw_m5 26 rfl) rfl
theorem q1091 : (Jvm.Cond.static ({ cls := "MatchmakerRules$Book", name := "lambda$drop$2", desc := "(LMatchmakerRules$Rule;LMatchmakerRules$Firing;)Z" } : Jvm.MethodName)) ∈ lw_all := lw_g (lw_at lw_m5 35 rfl) rfl
theorem q1092 : (Jvm.Cond.code ({ cls := "MatchmakerRules$Book", name := "lambda$drop$2", desc := "(LMatchmakerRules$Rule;LMatchmakerRules$Firing;)Z" } : Jvm.MethodName) prog_2_method_42_code (2 : Nat) (Option.some Jvm.ClassFile.FieldType.boolean)) ∈ lw_all := lw_g (lw_at lw_m5 36 rfl) rfl
theorem q1093 : (Jvm.Cond.methodLinkNest "MatchmakerRules$Book" (245 : Nat) ({ cls := "MatchmakerRules", name := "remove", desc := "(Ljava/util/ArrayList;LMatchmakerRules$Test;)V" } : Jvm.MethodName) "MatchmakerRules") ∈ lw_tbl := lw_at lw_m5 37 rfl
theorem q1136 : (Jvm.Cond.static ({ cls := "MatchmakerRules$Book", name := "lambda$drop$3", desc := "(LMatchmakerRules$Rule;LMatchmakerRules$Firing;)Z" } : Jvm.MethodName)) ∈ lw_all := lw_g (lw_at lw_m5 80 rfl) rfl
theorem q1137 : (Jvm.Cond.code ({ cls := "MatchmakerRules$Book", name := "lambda$drop$3", desc := "(LMatchmakerRules$Rule;LMatchmakerRules$Firing;)Z" } : Jvm.MethodName) prog_2_method_41_code (2 : Nat) (Option.some Jvm.ClassFile.FieldType.boolean)) ∈ lw_all := lw_g (lw_at lw_m5 81 rfl) rfl
theorem q1138 : (Jvm.Cond.methodLink "MatchmakerRules$Book" (253 : Nat) ({ cls := "MatchmakerRules$Book", name := "loseGround", desc := "()I" } : Jvm.MethodName)) ∈ lw_all := lw_g (lw_at lw_m5 82 rfl) rfl
theorem q1139 : (Jvm.Cond.privateMethod ({ cls := "MatchmakerRules$Book", name := "loseGround", desc := "()I" } : Jvm.MethodName)) ∈ lw_tbl := lw_at lw_m5 83 rfl
theorem q1140 : (Jvm.Cond.instanceMethod ({ cls := "MatchmakerRules$Book", name := "loseGround", desc := "()I" } : Jvm.MethodName)) ∈ lw_all := lw_g (lw_at lw_m5 84 rfl) rfl
theorem q1141 : (Jvm.Cond.code ({ cls := "MatchmakerRules$Book", name := "loseGround", desc := "()I" } : Jvm.MethodName) prog_2_method_23_code (7 : Nat) (Option.some Jvm.ClassFile.FieldType.int)) ∈ lw_all := lw_g (lw_at lw_m5 85 rfl) rfl
theorem q1142 : (Jvm.Cond.static ({ cls := "MatchmakerRules$Book", name := "lambda$loseGround$0", desc := "(ILMatchmakerRules$Firing;)Z" } : Jvm.MethodName)) ∈ lw_all := lw_g (lw_at lw_m5 86 rfl) rfl
theorem q1143 : (Jvm.Cond.code ({ cls := "MatchmakerRules$Book", name := "lambda$loseGround$0", desc := "(ILMatchmakerRules$Firing;)Z" } : Jvm.MethodName) prog_2_method_44_code (2 : Nat) (Option.some Jvm.ClassFile.FieldType.boolean)) ∈ lw_all := lw_g (lw_at lw_m5 87 rfl) rfl
theorem q1144 : (Jvm.Cond.methodLink "MatchmakerRules$Book" (321 : Nat) ({ cls := "MatchmakerRules$Firing", name := "has", desc := "(I)Z" } : Jvm.MethodName)) ∈ lw_all := lw_g (lw_at lw_m5 88 rfl) rfl
theorem q1148 : (Jvm.Cond.static ({ cls := "MatchmakerRules$Book", name := "lambda$loseGround$1", desc := "(ILMatchmakerRules$Firing;)Z" } : Jvm.MethodName)) ∈ lw_all := lw_g (lw_at lw_m5 92 rfl) rfl
theorem q1149 : (Jvm.Cond.code ({ cls := "MatchmakerRules$Book", name := "lambda$loseGround$1", desc := "(ILMatchmakerRules$Firing;)Z" } : Jvm.MethodName) prog_2_method_43_code (2 : Nat) (Option.some Jvm.ClassFile.FieldType.boolean)) ∈ lw_all := lw_g (lw_at lw_m5 93 rfl) rfl
theorem q1151 : (Jvm.Cond.instanceMethod ({ cls := "MatchmakerRules$Book", name := "tell", desc := "(CIII)I" } : Jvm.MethodName)) ∈ lw_all := lw_g (lw_at lw_m5 95 rfl) rfl
theorem q1152 : (Jvm.Cond.selects "MatchmakerRules$Book" ({ cls := "MatchmakerRules$Book", name := "tell", desc := "(CIII)I" } : Jvm.MethodName) ({ cls := "MatchmakerRules$Book", name := "tell", desc := "(CIII)I" } : Jvm.MethodName)) ∈ lw_all := lw_g (lw_at lw_m5 96 rfl) rfl
theorem q1153 : (Jvm.Cond.code ({ cls := "MatchmakerRules$Book", name := "tell", desc := "(CIII)I" } : Jvm.MethodName) prog_2_method_26_code (6 : Nat) (Option.some Jvm.ClassFile.FieldType.int)) ∈ lw_all := lw_g (lw_at lw_m5 97 rfl) rfl
theorem q1154 : (Jvm.Cond.constantLong "MatchmakerRules$Book" (256 : Nat) (97 : Int64)) ∈ lw_all := lw_g (lw_at lw_m5 98 rfl) rfl
theorem q1155 : (Jvm.Cond.constantLong "MatchmakerRules$Book" (258 : Nat) (102 : Int64)) ∈ lw_all := lw_g (lw_at lw_m5 99 rfl) rfl
theorem q1156 : (Jvm.Cond.constantLong "MatchmakerRules$Book" (260 : Nat) (9 : Int64)) ∈ lw_all := lw_g (lw_at lw_m5 100 rfl) rfl
theorem q1157 : (Jvm.Cond.methodLinkNest "MatchmakerRules$Book" (208 : Nat) ({ cls := "MatchmakerRules", name := "checkArgument", desc := "(Z)V" } : Jvm.MethodName) "MatchmakerRules") ∈ lw_tbl := lw_at lw_m5 101 rfl
theorem q1160 : (Jvm.Cond.constantLong "MatchmakerRules$Book" (262 : Nat) (100 : Int64)) ∈ lw_all := lw_g (lw_at lw_m5 104 rfl) rfl
theorem q1161 : (Jvm.Cond.constantFloat "MatchmakerRules$Book" (264 : Nat) (1120403456 : UInt32)) ∈ lw_all := lw_g (lw_at lw_m5 105 rfl) rfl
theorem q1162 : (Jvm.Cond.methodLink "MatchmakerRules$Book" (179 : Nat) ({ cls := "MatchmakerRules$Book", name := "come", desc := "(CIIF)LMatchmakerRules$Fact;" } : Jvm.MethodName)) ∈ lw_all := lw_g (lw_at lw_m5 106 rfl) rfl
theorem q1163 : (Jvm.Cond.privateMethod ({ cls := "MatchmakerRules$Book", name := "come", desc := "(CIIF)LMatchmakerRules$Fact;" } : Jvm.MethodName)) ∈ lw_tbl := lw_at lw_m5 107 rfl
theorem q1164 : (Jvm.Cond.instanceMethod ({ cls := "MatchmakerRules$Book", name := "come", desc := "(CIIF)LMatchmakerRules$Fact;" } : Jvm.MethodName)) ∈ lw_all := lw_g (lw_at lw_m5 108 rfl) rfl
theorem q1165 : (Jvm.Cond.code ({ cls := "MatchmakerRules$Book", name := "come", desc := "(CIIF)LMatchmakerRules$Fact;" } : Jvm.MethodName) prog_2_method_15_code (7 : Nat) (Option.some (Jvm.ClassFile.FieldType.object "MatchmakerRules$Fact"))) ∈ lw_all := lw_g (lw_at lw_m5 109 rfl) rfl
theorem q1166 : (Jvm.Cond.methodLink "MatchmakerRules$Book" (189 : Nat) ({ cls := "MatchmakerRules$Fact", name := "<init>", desc := "(ICIIFI)V" } : Jvm.MethodName)) ∈ lw_all := lw_g (lw_at lw_m5 110 rfl) rfl
theorem q1168 : (Jvm.Cond.instanceMethod ({ cls := "MatchmakerRules$Book", name := "untell", desc := "(I)I" } : Jvm.MethodName)) ∈ lw_all := lw_g (lw_at lw_m5 112 rfl) rfl
theorem q1169 : (Jvm.Cond.selects "MatchmakerRules$Book" ({ cls := "MatchmakerRules$Book", name := "untell", desc := "(I)I" } : Jvm.MethodName) ({ cls := "MatchmakerRules$Book", name := "untell", desc := "(I)I" } : Jvm.MethodName)) ∈ lw_all := lw_g (lw_at lw_m5 113 rfl) rfl
theorem q1170 : (Jvm.Cond.code ({ cls := "MatchmakerRules$Book", name := "untell", desc := "(I)I" } : Jvm.MethodName) prog_2_method_27_code (3 : Nat) (Option.some Jvm.ClassFile.FieldType.int)) ∈ lw_all := lw_g (lw_at lw_m5 114 rfl) rfl
theorem q1172 : (Jvm.Cond.instanceMethod ({ cls := "MatchmakerRules$Book", name := "run", desc := "(I)I" } : Jvm.MethodName)) ∈ lw_all := lw_g (lw_at lw_m5 116 rfl) rfl
theorem q1173 : (Jvm.Cond.selects "MatchmakerRules$Book" ({ cls := "MatchmakerRules$Book", name := "run", desc := "(I)I" } : Jvm.MethodName) ({ cls := "MatchmakerRules$Book", name := "run", desc := "(I)I" } : Jvm.MethodName)) ∈ lw_all := lw_g (lw_at lw_m5 117 rfl) rfl
theorem q1174 : (Jvm.Cond.code ({ cls := "MatchmakerRules$Book", name := "run", desc := "(I)I" } : Jvm.MethodName) prog_2_method_17_code (5 : Nat) (Option.some Jvm.ClassFile.FieldType.int)) ∈ lw_all := lw_g (lw_at lw_m5 118 rfl) rfl
theorem q1175 : (Jvm.Cond.constantLong "MatchmakerRules$Book" (206 : Nat) (30 : Int64)) ∈ lw_all := lw_g (lw_at lw_m5 119 rfl) rfl
theorem q1176 : (Jvm.Cond.methodLink "MatchmakerRules$Book" (192 : Nat) ({ cls := "MatchmakerRules$Book", name := "foremost", desc := "()LMatchmakerRules$Firing;" } : Jvm.MethodName)) ∈ lw_all := lw_g (lw_at lw_m5 120 rfl) rfl
theorem q1177 : (Jvm.Cond.privateMethod ({ cls := "MatchmakerRules$Book", name := "foremost", desc := "()LMatchmakerRules$Firing;" } : Jvm.MethodName)) ∈ lw_tbl := lw_at lw_m5 121 rfl
theorem q1178 : (Jvm.Cond.instanceMethod ({ cls := "MatchmakerRules$Book", name := "foremost", desc := "()LMatchmakerRules$Firing;" } : Jvm.MethodName)) ∈ lw_all := lw_g (lw_at lw_m5 122 rfl) rfl
theorem q1179 : (Jvm.Cond.code ({ cls := "MatchmakerRules$Book", name := "foremost", desc := "()LMatchmakerRules$Firing;" } : Jvm.MethodName) prog_2_method_11_code (2 : Nat) (Option.some (Jvm.ClassFile.FieldType.object "MatchmakerRules$Firing"))) ∈ lw_all := lw_g (lw_at lw_m5 123 rfl) rfl
theorem q1181 : (Jvm.Cond.methodLinkNest "MatchmakerRules$Book" (115 : Nat) ({ cls := "MatchmakerRules$Firing", name := "<init>", desc := "()V" } : Jvm.MethodName) "MatchmakerRules") ∈ lw_tbl := lw_at lw_m5 125 rfl
theorem q1187 : (Jvm.Cond.fieldLinkNest "MatchmakerRules$Book" (149 : Nat) "MatchmakerRules$Firing" "rule" "LMatchmakerRules$Rule;" "MatchmakerRules") ∈ lw_tbl := lw_at lw_m5 131 rfl
theorem q1190 : (Jvm.Cond.fieldLinkNest "MatchmakerRules$Book" (146 : Nat) "MatchmakerRules$Firing" "first" "I" "MatchmakerRules") ∈ lw_tbl := lw_at lw_m5 134 rfl
theorem q1193 : (Jvm.Cond.fieldLinkNest "MatchmakerRules$Book" (148 : Nat) "MatchmakerRules$Firing" "second" "I" "MatchmakerRules") ∈ lw_tbl := lw_at lw_m5 137 rfl
theorem q1201 : (Jvm.Cond.methodLink "MatchmakerRules$Book" (116 : Nat) ({ cls := "MatchmakerRules$Book", name := "isNext", desc := "(LMatchmakerRules$Firing;LMatchmakerRules$Firing;)Z" } : Jvm.MethodName)) ∈ lw_all := lw_g (lw_at lw_m5 145 rfl) rfl
theorem q1202 : (Jvm.Cond.privateMethod ({ cls := "MatchmakerRules$Book", name := "isNext", desc := "(LMatchmakerRules$Firing;LMatchmakerRules$Firing;)Z" } : Jvm.MethodName)) ∈ lw_tbl := lw_at lw_m5 146 rfl
theorem q1203 : (Jvm.Cond.instanceMethod ({ cls := "MatchmakerRules$Book", name := "isNext", desc := "(LMatchmakerRules$Firing;LMatchmakerRules$Firing;)Z" } : Jvm.MethodName)) ∈ lw_all := lw_g (lw_at lw_m5 147 rfl) rfl
theorem q1204 : (Jvm.Cond.code ({ cls := "MatchmakerRules$Book", name := "isNext", desc := "(LMatchmakerRules$Firing;LMatchmakerRules$Firing;)Z" } : Jvm.MethodName) prog_2_method_13_code (7 : Nat) (Option.some Jvm.ClassFile.FieldType.boolean)) ∈ lw_all := lw_g (lw_at lw_m5 148 rfl) rfl
theorem q1205 : (Jvm.Cond.methodLink "MatchmakerRules$Book" (120 : Nat) ({ cls := "MatchmakerRules$Book$Walk", name := "isAheadOf", desc := "(LMatchmakerRules$Firing;)Z" } : Jvm.MethodName)) ∈ lw_all := lw_g (lw_at lw_m5 149 rfl) rfl
theorem q1216 : (Jvm.Cond.methodLink "MatchmakerRules$Book" (124 : Nat) ({ cls := "MatchmakerRules$Book$Walk", name := "isAt", desc := "(LMatchmakerRules$Firing;)Z" } : Jvm.MethodName)) ∈ lw_all := lw_g (lw_at lw_m5 160 rfl) rfl
theorem q1220 : (Jvm.Cond.methodLink "MatchmakerRules$Book" (138 : Nat) ({ cls := "MatchmakerRules$Firing", name := "become", desc := "(LMatchmakerRules$Rule;II)V" } : Jvm.MethodName)) ∈ lw_all := lw_g (lw_at lw_m5 164 rfl) rfl
theorem q1224 : (Jvm.Cond.methodLink "MatchmakerRules$Book" (202 : Nat) ({ cls := "MatchmakerRules$Book", name := "fire", desc := "(LMatchmakerRules$Firing;)I" } : Jvm.MethodName)) ∈ lw_all := lw_g (lw_at lw_m5 168 rfl) rfl
theorem q1225 : (Jvm.Cond.privateMethod ({ cls := "MatchmakerRules$Book", name := "fire", desc := "(LMatchmakerRules$Firing;)I" } : Jvm.MethodName)) ∈ lw_tbl := lw_at lw_m5 169 rfl
theorem q1226 : (Jvm.Cond.instanceMethod ({ cls := "MatchmakerRules$Book", name := "fire", desc := "(LMatchmakerRules$Firing;)I" } : Jvm.MethodName)) ∈ lw_all := lw_g (lw_at lw_m5 170 rfl) rfl
theorem q1227 : (Jvm.Cond.code ({ cls := "MatchmakerRules$Book", name := "fire", desc := "(LMatchmakerRules$Firing;)I" } : Jvm.MethodName) prog_2_method_14_code (11 : Nat) (Option.some Jvm.ClassFile.FieldType.int)) ∈ lw_all := lw_g (lw_at lw_m5 171 rfl) rfl
theorem q1228 : (Jvm.Cond.methodLink "MatchmakerRules$Book" (142 : Nat) ({ cls := "MatchmakerRules$Book", name := "free", desc := "([I)V" } : Jvm.MethodName)) ∈ lw_all := lw_g (lw_at lw_m5 172 rfl) rfl
theorem q1229 : (Jvm.Cond.methodLink "MatchmakerRules$Book" (153 : Nat) ({ cls := "MatchmakerRules$Pattern", name := "fits", desc := "(LMatchmakerRules$Fact;[I)Z" } : Jvm.MethodName)) ∈ lw_all := lw_g (lw_at lw_m5 173 rfl) rfl
theorem q1230 : (Jvm.Cond.methodLink "MatchmakerRules$Book" (164 : Nat) ({ cls := "MatchmakerRules$Pattern", name := "person", desc := "(I[I)I" } : Jvm.MethodName)) ∈ lw_all := lw_g (lw_at lw_m5 174 rfl) rfl
theorem q1235 : (Jvm.Cond.instanceMethod ({ cls := "MatchmakerRules$Book", name := "fireFirst", desc := "()I" } : Jvm.MethodName)) ∈ lw_all := lw_g (lw_at lw_m5 179 rfl) rfl
theorem q1236 : (Jvm.Cond.selects "MatchmakerRules$Book" ({ cls := "MatchmakerRules$Book", name := "fireFirst", desc := "()I" } : Jvm.MethodName) ({ cls := "MatchmakerRules$Book", name := "fireFirst", desc := "()I" } : Jvm.MethodName)) ∈ lw_all := lw_g (lw_at lw_m5 180 rfl) rfl
theorem q1237 : (Jvm.Cond.code ({ cls := "MatchmakerRules$Book", name := "fireFirst", desc := "()I" } : Jvm.MethodName) prog_2_method_16_code (2 : Nat) (Option.some Jvm.ClassFile.FieldType.int)) ∈ lw_all := lw_g (lw_at lw_m5 181 rfl) rfl
theorem q1369 : (Jvm.Cond.instanceMethod ({ cls := "MatchmakerRules$Book", name := "fact", desc := "(I)LMatchmakerRules$Fact;" } : Jvm.MethodName)) ∈ lw_all := lw_g (lw_at lw_m6 73 rfl) rfl
theorem q1370 : (Jvm.Cond.selects "MatchmakerRules$Book" ({ cls := "MatchmakerRules$Book", name := "fact", desc := "(I)LMatchmakerRules$Fact;" } : Jvm.MethodName) ({ cls := "MatchmakerRules$Book", name := "fact", desc := "(I)LMatchmakerRules$Fact;" } : Jvm.MethodName)) ∈ lw_all := lw_g (lw_at lw_m6 74 rfl) rfl
theorem q1371 : (Jvm.Cond.code ({ cls := "MatchmakerRules$Book", name := "fact", desc := "(I)LMatchmakerRules$Fact;" } : Jvm.MethodName) prog_2_method_5_code (3 : Nat) (Option.some (Jvm.ClassFile.FieldType.object "MatchmakerRules$Fact"))) ∈ lw_all := lw_g (lw_at lw_m6 75 rfl) rfl
theorem q1372 : (Jvm.Cond.methodLinkNest "MatchmakerRules$Book" (81 : Nat) ({ cls := "MatchmakerRules", name := "checkElement", desc := "(Z)V" } : Jvm.MethodName) "MatchmakerRules") ∈ lw_tbl := lw_at lw_m6 76 rfl
theorem q1374 : (Jvm.Cond.instanceMethod ({ cls := "MatchmakerRules$Book", name := "uses", desc := "(LMatchmakerRules$Fact;)I" } : Jvm.MethodName)) ∈ lw_all := lw_g (lw_at lw_m6 78 rfl) rfl
theorem q1375 : (Jvm.Cond.selects "MatchmakerRules$Book" ({ cls := "MatchmakerRules$Book", name := "uses", desc := "(LMatchmakerRules$Fact;)I" } : Jvm.MethodName) ({ cls := "MatchmakerRules$Book", name := "uses", desc := "(LMatchmakerRules$Fact;)I" } : Jvm.MethodName)) ∈ lw_all := lw_g (lw_at lw_m6 79 rfl) rfl
theorem q1376 : (Jvm.Cond.code ({ cls := "MatchmakerRules$Book", name := "uses", desc := "(LMatchmakerRules$Fact;)I" } : Jvm.MethodName) prog_2_method_31_code (5 : Nat) (Option.some Jvm.ClassFile.FieldType.int)) ∈ lw_all := lw_g (lw_at lw_m6 80 rfl) rfl
theorem q1377 : (Jvm.Cond.static ({ cls := "MatchmakerRules$Book", name := "lambda$uses$4", desc := "(LMatchmakerRules$Fact;LMatchmakerRules$Firing;)Z" } : Jvm.MethodName)) ∈ lw_all := lw_g (lw_at lw_m6 81 rfl) rfl
theorem q1378 : (Jvm.Cond.code ({ cls := "MatchmakerRules$Book", name := "lambda$uses$4", desc := "(LMatchmakerRules$Fact;LMatchmakerRules$Firing;)Z" } : Jvm.MethodName) prog_2_method_40_code (2 : Nat) (Option.some Jvm.ClassFile.FieldType.boolean)) ∈ lw_all := lw_g (lw_at lw_m6 82 rfl) rfl
theorem q1380 : (Jvm.Cond.instanceMethod ({ cls := "MatchmakerRules$Book", name := "depth", desc := "(LMatchmakerRules$Fact;)I" } : Jvm.MethodName)) ∈ lw_all := lw_g (lw_at lw_m6 84 rfl) rfl
theorem q1381 : (Jvm.Cond.selects "MatchmakerRules$Book" ({ cls := "MatchmakerRules$Book", name := "depth", desc := "(LMatchmakerRules$Fact;)I" } : Jvm.MethodName) ({ cls := "MatchmakerRules$Book", name := "depth", desc := "(LMatchmakerRules$Fact;)I" } : Jvm.MethodName)) ∈ lw_all := lw_g (lw_at lw_m6 85 rfl) rfl
theorem q1382 : (Jvm.Cond.code ({ cls := "MatchmakerRules$Book", name := "depth", desc := "(LMatchmakerRules$Fact;)I" } : Jvm.MethodName) prog_2_method_21_code (2 : Nat) (Option.some Jvm.ClassFile.FieldType.int)) ∈ lw_all := lw_g (lw_at lw_m6 86 rfl) rfl
theorem q1415 : (Jvm.Cond.instanceMethod ({ cls := "MatchmakerRules$Book", name := "trusted", desc := "(I)LMatchmakerRules$Fact;" } : Jvm.MethodName)) ∈ lw_all := lw_g (lw_at lw_m6 119 rfl) rfl
theorem q1416 : (Jvm.Cond.selects "MatchmakerRules$Book" ({ cls := "MatchmakerRules$Book", name := "trusted", desc := "(I)LMatchmakerRules$Fact;" } : Jvm.MethodName) ({ cls := "MatchmakerRules$Book", name := "trusted", desc := "(I)LMatchmakerRules$Fact;" } : Jvm.MethodName)) ∈ lw_all := lw_g (lw_at lw_m6 120 rfl) rfl
theorem q1417 : (Jvm.Cond.code ({ cls := "MatchmakerRules$Book", name := "trusted", desc := "(I)LMatchmakerRules$Fact;" } : Jvm.MethodName) prog_2_method_33_code (7 : Nat) (Option.some (Jvm.ClassFile.FieldType.object "MatchmakerRules$Fact"))) ∈ lw_all := lw_g (lw_at lw_m6 121 rfl) rfl
theorem q1418 : (Jvm.Cond.methodLink "MatchmakerRules$Book" (275 : Nat) ({ cls := "MatchmakerRules$Book", name := "isAhead", desc := "(LMatchmakerRules$Fact;LMatchmakerRules$Fact;)Z" } : Jvm.MethodName)) ∈ lw_all := lw_g (lw_at lw_m6 122 rfl) rfl
theorem q1419 : (Jvm.Cond.privateMethod ({ cls := "MatchmakerRules$Book", name := "isAhead", desc := "(LMatchmakerRules$Fact;LMatchmakerRules$Fact;)Z" } : Jvm.MethodName)) ∈ lw_tbl := lw_at lw_m6 123 rfl
theorem q1420 : (Jvm.Cond.instanceMethod ({ cls := "MatchmakerRules$Book", name := "isAhead", desc := "(LMatchmakerRules$Fact;LMatchmakerRules$Fact;)Z" } : Jvm.MethodName)) ∈ lw_all := lw_g (lw_at lw_m6 124 rfl) rfl
theorem q1421 : (Jvm.Cond.code ({ cls := "MatchmakerRules$Book", name := "isAhead", desc := "(LMatchmakerRules$Fact;LMatchmakerRules$Fact;)Z" } : Jvm.MethodName) prog_2_method_32_code (3 : Nat) (Option.some Jvm.ClassFile.FieldType.boolean)) ∈ lw_all := lw_g (lw_at lw_m6 125 rfl) rfl
theorem q1430 : (Jvm.Cond.instanceMethod ({ cls := "MatchmakerRules$Book", name := "agenda", desc := "(I)LMatchmakerRules$Firing;" } : Jvm.MethodName)) ∈ lw_all := lw_g (lw_at lw_m6 134 rfl) rfl
theorem q1431 : (Jvm.Cond.selects "MatchmakerRules$Book" ({ cls := "MatchmakerRules$Book", name := "agenda", desc := "(I)LMatchmakerRules$Firing;" } : Jvm.MethodName) ({ cls := "MatchmakerRules$Book", name := "agenda", desc := "(I)LMatchmakerRules$Firing;" } : Jvm.MethodName)) ∈ lw_all := lw_g (lw_at lw_m6 135 rfl) rfl
theorem q1432 : (Jvm.Cond.code ({ cls := "MatchmakerRules$Book", name := "agenda", desc := "(I)LMatchmakerRules$Firing;" } : Jvm.MethodName) prog_2_method_12_code (7 : Nat) (Option.some (Jvm.ClassFile.FieldType.object "MatchmakerRules$Firing"))) ∈ lw_all := lw_g (lw_at lw_m6 136 rfl) rfl
theorem q1434 : (Jvm.Cond.instanceMethod ({ cls := "MatchmakerRules$Book", name := "part", desc := "(LMatchmakerRules$Firing;I)I" } : Jvm.MethodName)) ∈ lw_all := lw_g (lw_at lw_m6 138 rfl) rfl
theorem q1435 : (Jvm.Cond.selects "MatchmakerRules$Book" ({ cls := "MatchmakerRules$Book", name := "part", desc := "(LMatchmakerRules$Firing;I)I" } : Jvm.MethodName) ({ cls := "MatchmakerRules$Book", name := "part", desc := "(LMatchmakerRules$Firing;I)I" } : Jvm.MethodName)) ∈ lw_all := lw_g (lw_at lw_m6 139 rfl) rfl
theorem q1436 : (Jvm.Cond.code ({ cls := "MatchmakerRules$Book", name := "part", desc := "(LMatchmakerRules$Firing;I)I" } : Jvm.MethodName) prog_2_method_38_code (3 : Nat) (Option.some Jvm.ClassFile.FieldType.int)) ∈ lw_all := lw_g (lw_at lw_m6 140 rfl) rfl
theorem q1437 : (Jvm.Cond.classLink "MatchmakerRules$Book" (315 : Nat) "java/lang/IllegalArgumentException") ∈ lw_all := lw_g (lw_at lw_m6 141 rfl) rfl
theorem q1438 : (Jvm.Cond.methodLink "MatchmakerRules$Book" (317 : Nat) ({ cls := "java/lang/IllegalArgumentException", name := "<init>", desc := "()V" } : Jvm.MethodName)) ∈ lw_all := lw_g (lw_at lw_m6 142 rfl) rfl
theorem q1471 : (Jvm.Cond.instanceMethod ({ cls := "MatchmakerRules$Book", name := "rule", desc := "(I)LMatchmakerRules$Rule;" } : Jvm.MethodName)) ∈ lw_all := lw_g (lw_at lw_m6 175 rfl) rfl
theorem q1472 : (Jvm.Cond.selects "MatchmakerRules$Book" ({ cls := "MatchmakerRules$Book", name := "rule", desc := "(I)LMatchmakerRules$Rule;" } : Jvm.MethodName) ({ cls := "MatchmakerRules$Book", name := "rule", desc := "(I)LMatchmakerRules$Rule;" } : Jvm.MethodName)) ∈ lw_all := lw_g (lw_at lw_m6 176 rfl) rfl
theorem q1473 : (Jvm.Cond.code ({ cls := "MatchmakerRules$Book", name := "rule", desc := "(I)LMatchmakerRules$Rule;" } : Jvm.MethodName) prog_2_method_6_code (2 : Nat) (Option.some (Jvm.ClassFile.FieldType.object "MatchmakerRules$Rule"))) ∈ lw_all := lw_g (lw_at lw_m6 177 rfl) rfl
theorem q1474 : (Jvm.Cond.methodLinkNest "MatchmakerRules$Book" (93 : Nat) ({ cls := "MatchmakerRules", name := "checkIndex", desc := "(Z)V" } : Jvm.MethodName) "MatchmakerRules") ∈ lw_tbl := lw_at lw_m6 178 rfl
theorem q1493 : (Jvm.Cond.instanceMethod ({ cls := "MatchmakerRules$Book", name := "matches", desc := "(LMatchmakerRules$Rule;)I" } : Jvm.MethodName)) ∈ lw_all := lw_g (lw_at lw_m6 197 rfl) rfl
theorem q1494 : (Jvm.Cond.selects "MatchmakerRules$Book" ({ cls := "MatchmakerRules$Book", name := "matches", desc := "(LMatchmakerRules$Rule;)I" } : Jvm.MethodName) ({ cls := "MatchmakerRules$Book", name := "matches", desc := "(LMatchmakerRules$Rule;)I" } : Jvm.MethodName)) ∈ lw_all := lw_g (lw_at lw_m6 198 rfl) rfl
theorem q1495 : (Jvm.Cond.code ({ cls := "MatchmakerRules$Book", name := "matches", desc := "(LMatchmakerRules$Rule;)I" } : Jvm.MethodName) prog_2_method_8_code (4 : Nat) (Option.some Jvm.ClassFile.FieldType.int)) ∈ lw_all := lw_g (lw_at lw_m6 199 rfl) rfl
theorem q1518 : (Jvm.Cond.instanceMethod ({ cls := "MatchmakerRules$Book", name := "quietIn", desc := "()I" } : Jvm.MethodName)) ∈ lw_all := lw_g (lw_at lw_m6 222 rfl) rfl
theorem q1519 : (Jvm.Cond.selects "MatchmakerRules$Book" ({ cls := "MatchmakerRules$Book", name := "quietIn", desc := "()I" } : Jvm.MethodName) ({ cls := "MatchmakerRules$Book", name := "quietIn", desc := "()I" } : Jvm.MethodName)) ∈ lw_all := lw_g (lw_at lw_m6 223 rfl) rfl
theorem q1520 : (Jvm.Cond.code ({ cls := "MatchmakerRules$Book", name := "quietIn", desc := "()I" } : Jvm.MethodName) prog_2_method_18_code (5 : Nat) (Option.some Jvm.ClassFile.FieldType.int)) ∈ lw_all := lw_g (lw_at lw_m6 224 rfl) rfl
theorem q1521 : (Jvm.Cond.methodLink "MatchmakerRules$Book" (211 : Nat) ({ cls := "MatchmakerRules$Book", name := "copy", desc := "()LMatchmakerRules$Book;" } : Jvm.MethodName)) ∈ lw_all := lw_g (lw_at lw_m6 225 rfl) rfl
theorem q1537 : (Jvm.Cond.instanceMethod ({ cls := "MatchmakerRules$Book", name := "wouldGo", desc := "(I)I" } : Jvm.MethodName)) ∈ lw_all := lw_g (lw_at lw_m7 1 rfl) rfl
theorem q1538 : (Jvm.Cond.selects "MatchmakerRules$Book" ({ cls := "MatchmakerRules$Book", name := "wouldGo", desc := "(I)I" } : Jvm.MethodName) ({ cls := "MatchmakerRules$Book", name := "wouldGo", desc := "(I)I" } : Jvm.MethodName)) ∈ lw_all := lw_g (lw_at lw_m7 2 rfl) rfl
theorem q1539 : (Jvm.Cond.code ({ cls := "MatchmakerRules$Book", name := "wouldGo", desc := "(I)I" } : Jvm.MethodName) prog_2_method_28_code (4 : Nat) (Option.some Jvm.ClassFile.FieldType.int)) ∈ lw_all := lw_g (lw_at lw_m7 3 rfl) rfl
theorem q1540 : (Jvm.Cond.methodLink "MatchmakerRules$Book" (265 : Nat) ({ cls := "MatchmakerRules$Book", name := "fact", desc := "(I)LMatchmakerRules$Fact;" } : Jvm.MethodName)) ∈ lw_all := lw_g (lw_at lw_m7 4 rfl) rfl
theorem q1748 : (Jvm.Cond.instanceMethod ({ cls := "MatchmakerRules$Book", name := "told", desc := "(LMatchmakerRules$Fact;)Ljava/lang/String;" } : Jvm.MethodName)) ∈ lw_all := lw_g (lw_at lw_m7 212 rfl) rfl
theorem q1749 : (Jvm.Cond.selects "MatchmakerRules$Book" ({ cls := "MatchmakerRules$Book", name := "told", desc := "(LMatchmakerRules$Fact;)Ljava/lang/String;" } : Jvm.MethodName) ({ cls := "MatchmakerRules$Book", name := "told", desc := "(LMatchmakerRules$Fact;)Ljava/lang/String;" } : Jvm.MethodName)) ∈ lw_all := lw_g (lw_at lw_m7 213 rfl) rfl
theorem q1750 : (Jvm.Cond.code ({ cls := "MatchmakerRules$Book", name := "told", desc := "(LMatchmakerRules$Fact;)Ljava/lang/String;" } : Jvm.MethodName) prog_2_method_37_code (6 : Nat) (Option.some (Jvm.ClassFile.FieldType.object "java/lang/String"))) ∈ lw_all := lw_g (lw_at lw_m7 214 rfl) rfl
theorem q1751 : (Jvm.Cond.classLink "MatchmakerRules$Book" (295 : Nat) "java/lang/StringBuilder") ∈ lw_all := lw_g (lw_at lw_m7 215 rfl) rfl
theorem q1752 : (Jvm.Cond.methodLink "MatchmakerRules$Book" (306 : Nat) ({ cls := "java/lang/StringBuilder", name := "<init>", desc := "()V" } : Jvm.MethodName)) ∈ lw_all := lw_g (lw_at lw_m7 216 rfl) rfl
theorem q1753 : (Jvm.Cond.methodLink "MatchmakerRules$Book" (300 : Nat) ({ cls := "java/lang/StringBuilder", name := "append", desc := "(I)Ljava/lang/StringBuilder;" } : Jvm.MethodName)) ∈ lw_all := lw_g (lw_at lw_m7 217 rfl) rfl
theorem q1754 : (Jvm.Cond.methodLink "MatchmakerRules$Book" (303 : Nat) ({ cls := "java/lang/StringBuilder", name := "append", desc := "(C)Ljava/lang/StringBuilder;" } : Jvm.MethodName)) ∈ lw_all := lw_g (lw_at lw_m7 218 rfl) rfl
theorem q1755 : (Jvm.Cond.methodLink "MatchmakerRules$Book" (307 : Nat) ({ cls := "MatchmakerRules$Book", name := "tell", desc := "(LMatchmakerRules$Firing;Ljava/lang/StringBuilder;)V" } : Jvm.MethodName)) ∈ lw_all := lw_g (lw_at lw_m7 219 rfl) rfl
theorem q1756 : (Jvm.Cond.privateMethod ({ cls := "MatchmakerRules$Book", name := "tell", desc := "(LMatchmakerRules$Firing;Ljava/lang/StringBuilder;)V" } : Jvm.MethodName)) ∈ lw_tbl := lw_at lw_m7 220 rfl
theorem q1757 : (Jvm.Cond.instanceMethod ({ cls := "MatchmakerRules$Book", name := "tell", desc := "(LMatchmakerRules$Firing;Ljava/lang/StringBuilder;)V" } : Jvm.MethodName)) ∈ lw_all := lw_g (lw_at lw_m7 221 rfl) rfl
theorem q1758 : (Jvm.Cond.code ({ cls := "MatchmakerRules$Book", name := "tell", desc := "(LMatchmakerRules$Firing;Ljava/lang/StringBuilder;)V" } : Jvm.MethodName) prog_2_method_36_code (4 : Nat) (Option.none : Option Jvm.ClassFile.FieldType)) ∈ lw_all := lw_g (lw_at lw_m7 222 rfl) rfl
theorem q1759 : (Jvm.Cond.stringRef "MatchmakerRules$Book" (292 : Nat) " r") ∈ lw_tbl := lw_at lw_m7 223 rfl
theorem q1760 : (Jvm.Cond.methodLink "MatchmakerRules$Book" (294 : Nat) ({ cls := "java/lang/StringBuilder", name := "append", desc := "(Ljava/lang/String;)Ljava/lang/StringBuilder;" } : Jvm.MethodName)) ∈ lw_all := lw_g (lw_at lw_m7 224 rfl) rfl
theorem q1761 : (Jvm.Cond.methodLink "MatchmakerRules$Book" (311 : Nat) ({ cls := "java/lang/StringBuilder", name := "toString", desc := "()Ljava/lang/String;" } : Jvm.MethodName)) ∈ lw_all := lw_g (lw_at lw_m7 225 rfl) rfl
theorem q1792 : (Jvm.Cond.instanceMethod ({ cls := "MatchmakerRules$Book", name := "told", desc := "()I" } : Jvm.MethodName)) ∈ lw_all := lw_g (lw_at lw_m8 16 rfl) rfl
theorem q1793 : (Jvm.Cond.selects "MatchmakerRules$Book" ({ cls := "MatchmakerRules$Book", name := "told", desc := "()I" } : Jvm.MethodName) ({ cls := "MatchmakerRules$Book", name := "told", desc := "()I" } : Jvm.MethodName)) ∈ lw_all := lw_g (lw_at lw_m8 17 rfl) rfl
theorem q1794 : (Jvm.Cond.code ({ cls := "MatchmakerRules$Book", name := "told", desc := "()I" } : Jvm.MethodName) prog_2_method_29_code (4 : Nat) (Option.some Jvm.ClassFile.FieldType.int)) ∈ lw_all := lw_g (lw_at lw_m8 18 rfl) rfl
theorem q1796 : (Jvm.Cond.instanceMethod ({ cls := "MatchmakerRules$Book", name := "reasons", desc := "()I" } : Jvm.MethodName)) ∈ lw_all := lw_g (lw_at lw_m8 20 rfl) rfl
theorem q1797 : (Jvm.Cond.selects "MatchmakerRules$Book" ({ cls := "MatchmakerRules$Book", name := "reasons", desc := "()I" } : Jvm.MethodName) ({ cls := "MatchmakerRules$Book", name := "reasons", desc := "()I" } : Jvm.MethodName)) ∈ lw_all := lw_g (lw_at lw_m8 21 rfl) rfl
theorem q1798 : (Jvm.Cond.code ({ cls := "MatchmakerRules$Book", name := "reasons", desc := "()I" } : Jvm.MethodName) prog_2_method_30_code (4 : Nat) (Option.some Jvm.ClassFile.FieldType.int)) ∈ lw_all := lw_g (lw_at lw_m8 22 rfl) rfl
theorem q2528 : (Jvm.Cond.castable "MatchmakerRules$Book" "java/lang/Object") ∈ lw_tbl := lw_at lw_m11 32 rfl
theorem in_X2 : ∀ w ∈ wsX20, w ∈ lw_all := lw_in wsX20 [233, 235, 237, 239, 241, 243, 245] (by decide +kernel) (by decide +kernel)
/-! MatchmakerRules$Book$Walk -/
set_option maxRecDepth 100000
def RX3 : String := "MatchmakerRules$Book$Walk"
def TX3 : u_T := fun k => match k with
  | 0 => ("MatchmakerRules$Book$Walk", "rule", "LMatchmakerRules$Rule;", false)
  | 1 => ("MatchmakerRules$Book$Walk", "persons", "[I", true)
  | 2 => ("MatchmakerRules$Book$Walk", "tried", "[I", true)
  | 3 => ("MatchmakerRules$Book$Walk", "place", "I", false)
  | 4 => ("MatchmakerRules$Book$Walk", "other", "I", false)
  | 5 => ("MatchmakerRules$Book$Walk", "first", "LMatchmakerRules$Fact;", false)
  | 6 => ("MatchmakerRules$Book$Walk", "second", "I", false)
  | _ => ("MatchmakerRules$Book$Walk", "this$0", "LMatchmakerRules$Book;", true)
def tyX3 : Nat → FieldType := fun k => match k with
  | 0 => .object "MatchmakerRules$Rule"
  | 1 => .array .int
  | 2 => .array .int
  | 3 => .int
  | 4 => .int
  | 5 => .object "MatchmakerRules$Fact"
  | 6 => .int
  | _ => .object "MatchmakerRules$Book"
abbrev wsX30 : List Cond := u_ws RX3 TX3 8
theorem nmX3 : ∀ a, a < 8 → ∀ b, b < 8 → a ≠ b → (TX3 a).2.1 ≠ (TX3 b).2.1 := by decide +kernel
theorem tyX3_ok : ∀ k, k < 8 → parseFieldDescriptor (TX3 k).2.2.1 = some (tyX3 k) := by decide +kernel
abbrev cX3_init : ByteArray := prog_3_method_1_code
def yX3_init : MethodName := ⟨RX3, "<init>", "(LMatchmakerRules$Book;)V"⟩
def dkwX3_init_1 : List UInt8 := [2, 181, 0, 22, 42, 2, 181, 0, 26, 177]
abbrev dktX3_init_1 : List UInt8 := dkwX3_init_1 ++ []
def dkwX3_init_0 : List UInt8 := [42, 43, 181, 0, 3, 42, 183, 0, 9, 42, 6, 188, 10, 181, 0, 15, 42, 6, 188, 10, 181, 0, 19, 42]
abbrev dktX3_init_0 : List UInt8 := dkwX3_init_0 ++ dktX3_init_1
theorem dksX3_init_0 : cX3_init.data.toList.drop 0 = dktX3_init_0 := by decide +kernel
theorem dksX3_init_1 : cX3_init.data.toList.drop 24 = dktX3_init_1 := dk_seg dksX3_init_0 24 rfl rfl
theorem dX3_init_0 : decode cX3_init 0 = .ok (.aload_n 0, 1) := dk_42 (dk_at dksX3_init_0 0 rfl rfl)
theorem dX3_init_1 : decode cX3_init 1 = .ok (.aload_n 1, 1) := dk_43 (dk_at dksX3_init_0 1 rfl rfl)
theorem dX3_init_2 : decode cX3_init 2 = .ok (.putfield 3, 3) := dk_181 0 3 (dk_at dksX3_init_0 2 rfl rfl)
theorem dX3_init_5 : decode cX3_init 5 = .ok (.aload_n 0, 1) := dk_42 (dk_at dksX3_init_0 5 rfl rfl)
theorem dX3_init_6 : decode cX3_init 6 = .ok (.invokespecial 9, 3) := dk_183 0 9 (dk_at dksX3_init_0 6 rfl rfl)
theorem dX3_init_9 : decode cX3_init 9 = .ok (.aload_n 0, 1) := dk_42 (dk_at dksX3_init_0 9 rfl rfl)
theorem dX3_init_10 : decode cX3_init 10 = .ok (.iconst 3, 1) := dk_6 (dk_at dksX3_init_0 10 rfl rfl)
theorem dX3_init_11 : decode cX3_init 11 = .ok (.newarray .int, 2) := dk_188_10 (dk_at dksX3_init_0 11 rfl rfl)
theorem dX3_init_13 : decode cX3_init 13 = .ok (.putfield 15, 3) := dk_181 0 15 (dk_at dksX3_init_0 13 rfl rfl)
theorem dX3_init_16 : decode cX3_init 16 = .ok (.aload_n 0, 1) := dk_42 (dk_at dksX3_init_0 16 rfl rfl)
theorem dX3_init_17 : decode cX3_init 17 = .ok (.iconst 3, 1) := dk_6 (dk_at dksX3_init_0 17 rfl rfl)
theorem dX3_init_18 : decode cX3_init 18 = .ok (.newarray .int, 2) := dk_188_10 (dk_at dksX3_init_0 18 rfl rfl)
theorem dX3_init_20 : decode cX3_init 20 = .ok (.putfield 19, 3) := dk_181 0 19 (dk_at dksX3_init_0 20 rfl rfl)
theorem dX3_init_23 : decode cX3_init 23 = .ok (.aload_n 0, 1) := dk_42 (dk_at dksX3_init_0 23 rfl rfl)
theorem dX3_init_24 : decode cX3_init 24 = .ok (.iconst (-1), 1) := dk_2 (dk_at dksX3_init_1 0 rfl rfl)
theorem dX3_init_25 : decode cX3_init 25 = .ok (.putfield 22, 3) := dk_181 0 22 (dk_at dksX3_init_1 1 rfl rfl)
theorem dX3_init_28 : decode cX3_init 28 = .ok (.aload_n 0, 1) := dk_42 (dk_at dksX3_init_1 4 rfl rfl)
theorem dX3_init_29 : decode cX3_init 29 = .ok (.iconst (-1), 1) := dk_2 (dk_at dksX3_init_1 5 rfl rfl)
theorem dX3_init_30 : decode cX3_init 30 = .ok (.putfield 26, 3) := dk_181 0 26 (dk_at dksX3_init_1 6 rfl rfl)
theorem dX3_init_33 : decode cX3_init 33 = .ok (.return_, 1) := dk_177 (dk_at dksX3_init_1 9 rfl rfl)
abbrev cX3_begin : ByteArray := prog_3_method_2_code
def yX3_begin : MethodName := ⟨RX3, "begin", "(LMatchmakerRules$Rule;)LMatchmakerRules$Book$Walk;"⟩
def dkwX3_begin_1 : List UInt8 := [181, 0, 26, 42, 176]
abbrev dktX3_begin_1 : List UInt8 := dkwX3_begin_1 ++ []
def dkwX3_begin_0 : List UInt8 := [42, 43, 181, 0, 29, 42, 3, 181, 0, 33, 42, 2, 181, 0, 22, 42, 1, 181, 0, 36, 42, 2]
abbrev dktX3_begin_0 : List UInt8 := dkwX3_begin_0 ++ dktX3_begin_1
theorem dksX3_begin_0 : cX3_begin.data.toList.drop 0 = dktX3_begin_0 := by decide +kernel
theorem dksX3_begin_1 : cX3_begin.data.toList.drop 22 = dktX3_begin_1 := dk_seg dksX3_begin_0 22 rfl rfl
theorem dX3_begin_0 : decode cX3_begin 0 = .ok (.aload_n 0, 1) := dk_42 (dk_at dksX3_begin_0 0 rfl rfl)
theorem dX3_begin_1 : decode cX3_begin 1 = .ok (.aload_n 1, 1) := dk_43 (dk_at dksX3_begin_0 1 rfl rfl)
theorem dX3_begin_2 : decode cX3_begin 2 = .ok (.putfield 29, 3) := dk_181 0 29 (dk_at dksX3_begin_0 2 rfl rfl)
theorem dX3_begin_5 : decode cX3_begin 5 = .ok (.aload_n 0, 1) := dk_42 (dk_at dksX3_begin_0 5 rfl rfl)
theorem dX3_begin_6 : decode cX3_begin 6 = .ok (.iconst 0, 1) := dk_3 (dk_at dksX3_begin_0 6 rfl rfl)
theorem dX3_begin_7 : decode cX3_begin 7 = .ok (.putfield 33, 3) := dk_181 0 33 (dk_at dksX3_begin_0 7 rfl rfl)
theorem dX3_begin_10 : decode cX3_begin 10 = .ok (.aload_n 0, 1) := dk_42 (dk_at dksX3_begin_0 10 rfl rfl)
theorem dX3_begin_11 : decode cX3_begin 11 = .ok (.iconst (-1), 1) := dk_2 (dk_at dksX3_begin_0 11 rfl rfl)
theorem dX3_begin_12 : decode cX3_begin 12 = .ok (.putfield 22, 3) := dk_181 0 22 (dk_at dksX3_begin_0 12 rfl rfl)
theorem dX3_begin_15 : decode cX3_begin 15 = .ok (.aload_n 0, 1) := dk_42 (dk_at dksX3_begin_0 15 rfl rfl)
theorem dX3_begin_16 : decode cX3_begin 16 = .ok (.aconst_null, 1) := dk_1 (dk_at dksX3_begin_0 16 rfl rfl)
theorem dX3_begin_17 : decode cX3_begin 17 = .ok (.putfield 36, 3) := dk_181 0 36 (dk_at dksX3_begin_0 17 rfl rfl)
theorem dX3_begin_20 : decode cX3_begin 20 = .ok (.aload_n 0, 1) := dk_42 (dk_at dksX3_begin_0 20 rfl rfl)
theorem dX3_begin_21 : decode cX3_begin 21 = .ok (.iconst (-1), 1) := dk_2 (dk_at dksX3_begin_0 21 rfl rfl)
theorem dX3_begin_22 : decode cX3_begin 22 = .ok (.putfield 26, 3) := dk_181 0 26 (dk_at dksX3_begin_1 0 rfl rfl)
theorem dX3_begin_25 : decode cX3_begin 25 = .ok (.aload_n 0, 1) := dk_42 (dk_at dksX3_begin_1 3 rfl rfl)
theorem dX3_begin_26 : decode cX3_begin 26 = .ok (.areturn, 1) := dk_176 (dk_at dksX3_begin_1 4 rfl rfl)
abbrev cX3_goesOn : ByteArray := prog_3_method_6_code
def yX3_goesOn : MethodName := ⟨RX3, "goesOn", "()Z"⟩
def dkwX3_goesOn_7 : List UInt8 := [42, 2, 181, 0, 22, 42, 89, 180, 0, 33, 4, 96, 181, 0, 33, 167, 255, 76, 3, 172]
abbrev dktX3_goesOn_7 : List UInt8 := dkwX3_goesOn_7 ++ []
def dkwX3_goesOn_6 : List UInt8 := [181, 0, 22, 42, 43, 182, 0, 58, 153, 0, 13, 42, 43, 180, 0, 99, 181, 0, 26, 4, 172, 167, 255, 193]
abbrev dktX3_goesOn_6 : List UInt8 := dkwX3_goesOn_6 ++ dktX3_goesOn_7
def dkwX3_goesOn_5 : List UInt8 := [180, 0, 3, 180, 0, 40, 42, 180, 0, 22, 182, 0, 52, 192, 0, 56, 76, 42, 89, 180, 0, 22, 4, 96]
abbrev dktX3_goesOn_5 : List UInt8 := dkwX3_goesOn_5 ++ dktX3_goesOn_6
def dkwX3_goesOn_4 : List UInt8 := [182, 0, 46, 181, 0, 22, 42, 180, 0, 22, 42, 180, 0, 3, 180, 0, 40, 182, 0, 46, 162, 0, 52, 42]
abbrev dktX3_goesOn_4 : List UInt8 := dkwX3_goesOn_4 ++ dktX3_goesOn_5
def dkwX3_goesOn_3 : List UInt8 := [4, 96, 181, 0, 33, 4, 172, 42, 27, 153, 0, 7, 3, 167, 0, 13, 42, 180, 0, 3, 180, 0, 40]
abbrev dktX3_goesOn_3 : List UInt8 := dkwX3_goesOn_3 ++ dktX3_goesOn_4
def dkwX3_goesOn_2 : List UInt8 := [42, 182, 0, 93, 60, 27, 153, 0, 25, 42, 180, 0, 29, 182, 0, 96, 154, 0, 15, 42, 89, 180, 0, 33]
abbrev dktX3_goesOn_2 : List UInt8 := dkwX3_goesOn_2 ++ dktX3_goesOn_3
def dkwX3_goesOn_1 : List UInt8 := [160, 0, 77, 42, 42, 180, 0, 3, 180, 0, 40, 42, 180, 0, 33, 182, 0, 52, 192, 0, 56, 181, 0, 36]
abbrev dktX3_goesOn_1 : List UInt8 := dkwX3_goesOn_1 ++ dktX3_goesOn_2
def dkwX3_goesOn_0 : List UInt8 := [42, 180, 0, 33, 42, 180, 0, 3, 180, 0, 40, 182, 0, 46, 162, 0, 169, 42, 180, 0, 22, 2]
abbrev dktX3_goesOn_0 : List UInt8 := dkwX3_goesOn_0 ++ dktX3_goesOn_1
theorem dksX3_goesOn_0 : cX3_goesOn.data.toList.drop 0 = dktX3_goesOn_0 := by decide +kernel
theorem dksX3_goesOn_1 : cX3_goesOn.data.toList.drop 22 = dktX3_goesOn_1 := dk_seg dksX3_goesOn_0 22 rfl rfl
theorem dksX3_goesOn_2 : cX3_goesOn.data.toList.drop 46 = dktX3_goesOn_2 := dk_seg dksX3_goesOn_1 24 rfl rfl
theorem dksX3_goesOn_3 : cX3_goesOn.data.toList.drop 70 = dktX3_goesOn_3 := dk_seg dksX3_goesOn_2 24 rfl rfl
theorem dksX3_goesOn_4 : cX3_goesOn.data.toList.drop 93 = dktX3_goesOn_4 := dk_seg dksX3_goesOn_3 23 rfl rfl
theorem dksX3_goesOn_5 : cX3_goesOn.data.toList.drop 117 = dktX3_goesOn_5 := dk_seg dksX3_goesOn_4 24 rfl rfl
theorem dksX3_goesOn_6 : cX3_goesOn.data.toList.drop 141 = dktX3_goesOn_6 := dk_seg dksX3_goesOn_5 24 rfl rfl
theorem dksX3_goesOn_7 : cX3_goesOn.data.toList.drop 165 = dktX3_goesOn_7 := dk_seg dksX3_goesOn_6 24 rfl rfl
theorem dX3_goesOn_0 : decode cX3_goesOn 0 = .ok (.aload_n 0, 1) := dk_42 (dk_at dksX3_goesOn_0 0 rfl rfl)
theorem dX3_goesOn_1 : decode cX3_goesOn 1 = .ok (.getfield 33, 3) := dk_180 0 33 (dk_at dksX3_goesOn_0 1 rfl rfl)
theorem dX3_goesOn_4 : decode cX3_goesOn 4 = .ok (.aload_n 0, 1) := dk_42 (dk_at dksX3_goesOn_0 4 rfl rfl)
theorem dX3_goesOn_5 : decode cX3_goesOn 5 = .ok (.getfield 3, 3) := dk_180 0 3 (dk_at dksX3_goesOn_0 5 rfl rfl)
theorem dX3_goesOn_8 : decode cX3_goesOn 8 = .ok (.getfield 40, 3) := dk_180 0 40 (dk_at dksX3_goesOn_0 8 rfl rfl)
theorem dX3_goesOn_11 : decode cX3_goesOn 11 = .ok (.invokevirtual 46, 3) := dk_182 0 46 (dk_at dksX3_goesOn_0 11 rfl rfl)
theorem dX3_goesOn_14 : decode cX3_goesOn 14 = .ok (.if_icmp .ge 169, 3) := dk_162 0 169 (dk_at dksX3_goesOn_0 14 rfl rfl)
theorem dX3_goesOn_17 : decode cX3_goesOn 17 = .ok (.aload_n 0, 1) := dk_42 (dk_at dksX3_goesOn_0 17 rfl rfl)
theorem dX3_goesOn_18 : decode cX3_goesOn 18 = .ok (.getfield 22, 3) := dk_180 0 22 (dk_at dksX3_goesOn_0 18 rfl rfl)
theorem dX3_goesOn_21 : decode cX3_goesOn 21 = .ok (.iconst (-1), 1) := dk_2 (dk_at dksX3_goesOn_0 21 rfl rfl)
theorem dX3_goesOn_22 : decode cX3_goesOn 22 = .ok (.if_icmp .ne 77, 3) := dk_160 0 77 (dk_at dksX3_goesOn_1 0 rfl rfl)
theorem dX3_goesOn_25 : decode cX3_goesOn 25 = .ok (.aload_n 0, 1) := dk_42 (dk_at dksX3_goesOn_1 3 rfl rfl)
theorem dX3_goesOn_26 : decode cX3_goesOn 26 = .ok (.aload_n 0, 1) := dk_42 (dk_at dksX3_goesOn_1 4 rfl rfl)
theorem dX3_goesOn_27 : decode cX3_goesOn 27 = .ok (.getfield 3, 3) := dk_180 0 3 (dk_at dksX3_goesOn_1 5 rfl rfl)
theorem dX3_goesOn_30 : decode cX3_goesOn 30 = .ok (.getfield 40, 3) := dk_180 0 40 (dk_at dksX3_goesOn_1 8 rfl rfl)
theorem dX3_goesOn_33 : decode cX3_goesOn 33 = .ok (.aload_n 0, 1) := dk_42 (dk_at dksX3_goesOn_1 11 rfl rfl)
theorem dX3_goesOn_34 : decode cX3_goesOn 34 = .ok (.getfield 33, 3) := dk_180 0 33 (dk_at dksX3_goesOn_1 12 rfl rfl)
theorem dX3_goesOn_37 : decode cX3_goesOn 37 = .ok (.invokevirtual 52, 3) := dk_182 0 52 (dk_at dksX3_goesOn_1 15 rfl rfl)
theorem dX3_goesOn_40 : decode cX3_goesOn 40 = .ok (.checkcast 56, 3) := dk_192 0 56 (dk_at dksX3_goesOn_1 18 rfl rfl)
theorem dX3_goesOn_43 : decode cX3_goesOn 43 = .ok (.putfield 36, 3) := dk_181 0 36 (dk_at dksX3_goesOn_1 21 rfl rfl)
theorem dX3_goesOn_46 : decode cX3_goesOn 46 = .ok (.aload_n 0, 1) := dk_42 (dk_at dksX3_goesOn_2 0 rfl rfl)
theorem dX3_goesOn_47 : decode cX3_goesOn 47 = .ok (.invokevirtual 93, 3) := dk_182 0 93 (dk_at dksX3_goesOn_2 1 rfl rfl)
theorem dX3_goesOn_50 : decode cX3_goesOn 50 = .ok (.istore_n 1, 1) := dk_60 (dk_at dksX3_goesOn_2 4 rfl rfl)
theorem dX3_goesOn_51 : decode cX3_goesOn 51 = .ok (.iload_n 1, 1) := dk_27 (dk_at dksX3_goesOn_2 5 rfl rfl)
theorem dX3_goesOn_52 : decode cX3_goesOn 52 = .ok (.ifCond .eq 25, 3) := dk_153 0 25 (dk_at dksX3_goesOn_2 6 rfl rfl)
theorem dX3_goesOn_55 : decode cX3_goesOn 55 = .ok (.aload_n 0, 1) := dk_42 (dk_at dksX3_goesOn_2 9 rfl rfl)
theorem dX3_goesOn_56 : decode cX3_goesOn 56 = .ok (.getfield 29, 3) := dk_180 0 29 (dk_at dksX3_goesOn_2 10 rfl rfl)
theorem dX3_goesOn_59 : decode cX3_goesOn 59 = .ok (.invokevirtual 96, 3) := dk_182 0 96 (dk_at dksX3_goesOn_2 13 rfl rfl)
theorem dX3_goesOn_62 : decode cX3_goesOn 62 = .ok (.ifCond .ne 15, 3) := dk_154 0 15 (dk_at dksX3_goesOn_2 16 rfl rfl)
theorem dX3_goesOn_65 : decode cX3_goesOn 65 = .ok (.aload_n 0, 1) := dk_42 (dk_at dksX3_goesOn_2 19 rfl rfl)
theorem dX3_goesOn_66 : decode cX3_goesOn 66 = .ok (.dup, 1) := dk_89 (dk_at dksX3_goesOn_2 20 rfl rfl)
theorem dX3_goesOn_67 : decode cX3_goesOn 67 = .ok (.getfield 33, 3) := dk_180 0 33 (dk_at dksX3_goesOn_2 21 rfl rfl)
theorem dX3_goesOn_70 : decode cX3_goesOn 70 = .ok (.iconst 1, 1) := dk_4 (dk_at dksX3_goesOn_3 0 rfl rfl)
theorem dX3_goesOn_71 : decode cX3_goesOn 71 = .ok (.iadd, 1) := dk_96 (dk_at dksX3_goesOn_3 1 rfl rfl)
theorem dX3_goesOn_72 : decode cX3_goesOn 72 = .ok (.putfield 33, 3) := dk_181 0 33 (dk_at dksX3_goesOn_3 2 rfl rfl)
theorem dX3_goesOn_75 : decode cX3_goesOn 75 = .ok (.iconst 1, 1) := dk_4 (dk_at dksX3_goesOn_3 5 rfl rfl)
theorem dX3_goesOn_76 : decode cX3_goesOn 76 = .ok (.ireturn, 1) := dk_172 (dk_at dksX3_goesOn_3 6 rfl rfl)
theorem dX3_goesOn_77 : decode cX3_goesOn 77 = .ok (.aload_n 0, 1) := dk_42 (dk_at dksX3_goesOn_3 7 rfl rfl)
theorem dX3_goesOn_78 : decode cX3_goesOn 78 = .ok (.iload_n 1, 1) := dk_27 (dk_at dksX3_goesOn_3 8 rfl rfl)
theorem dX3_goesOn_79 : decode cX3_goesOn 79 = .ok (.ifCond .eq 7, 3) := dk_153 0 7 (dk_at dksX3_goesOn_3 9 rfl rfl)
theorem dX3_goesOn_82 : decode cX3_goesOn 82 = .ok (.iconst 0, 1) := dk_3 (dk_at dksX3_goesOn_3 12 rfl rfl)
theorem dX3_goesOn_83 : decode cX3_goesOn 83 = .ok (.goto 13, 3) := dk_167 0 13 (dk_at dksX3_goesOn_3 13 rfl rfl)
theorem dX3_goesOn_86 : decode cX3_goesOn 86 = .ok (.aload_n 0, 1) := dk_42 (dk_at dksX3_goesOn_3 16 rfl rfl)
theorem dX3_goesOn_87 : decode cX3_goesOn 87 = .ok (.getfield 3, 3) := dk_180 0 3 (dk_at dksX3_goesOn_3 17 rfl rfl)
theorem dX3_goesOn_90 : decode cX3_goesOn 90 = .ok (.getfield 40, 3) := dk_180 0 40 (dk_at dksX3_goesOn_3 20 rfl rfl)
theorem dX3_goesOn_93 : decode cX3_goesOn 93 = .ok (.invokevirtual 46, 3) := dk_182 0 46 (dk_at dksX3_goesOn_4 0 rfl rfl)
theorem dX3_goesOn_96 : decode cX3_goesOn 96 = .ok (.putfield 22, 3) := dk_181 0 22 (dk_at dksX3_goesOn_4 3 rfl rfl)
theorem dX3_goesOn_99 : decode cX3_goesOn 99 = .ok (.aload_n 0, 1) := dk_42 (dk_at dksX3_goesOn_4 6 rfl rfl)
theorem dX3_goesOn_100 : decode cX3_goesOn 100 = .ok (.getfield 22, 3) := dk_180 0 22 (dk_at dksX3_goesOn_4 7 rfl rfl)
theorem dX3_goesOn_103 : decode cX3_goesOn 103 = .ok (.aload_n 0, 1) := dk_42 (dk_at dksX3_goesOn_4 10 rfl rfl)
theorem dX3_goesOn_104 : decode cX3_goesOn 104 = .ok (.getfield 3, 3) := dk_180 0 3 (dk_at dksX3_goesOn_4 11 rfl rfl)
theorem dX3_goesOn_107 : decode cX3_goesOn 107 = .ok (.getfield 40, 3) := dk_180 0 40 (dk_at dksX3_goesOn_4 14 rfl rfl)
theorem dX3_goesOn_110 : decode cX3_goesOn 110 = .ok (.invokevirtual 46, 3) := dk_182 0 46 (dk_at dksX3_goesOn_4 17 rfl rfl)
theorem dX3_goesOn_113 : decode cX3_goesOn 113 = .ok (.if_icmp .ge 52, 3) := dk_162 0 52 (dk_at dksX3_goesOn_4 20 rfl rfl)
theorem dX3_goesOn_116 : decode cX3_goesOn 116 = .ok (.aload_n 0, 1) := dk_42 (dk_at dksX3_goesOn_4 23 rfl rfl)
theorem dX3_goesOn_117 : decode cX3_goesOn 117 = .ok (.getfield 3, 3) := dk_180 0 3 (dk_at dksX3_goesOn_5 0 rfl rfl)
theorem dX3_goesOn_120 : decode cX3_goesOn 120 = .ok (.getfield 40, 3) := dk_180 0 40 (dk_at dksX3_goesOn_5 3 rfl rfl)
theorem dX3_goesOn_123 : decode cX3_goesOn 123 = .ok (.aload_n 0, 1) := dk_42 (dk_at dksX3_goesOn_5 6 rfl rfl)
theorem dX3_goesOn_124 : decode cX3_goesOn 124 = .ok (.getfield 22, 3) := dk_180 0 22 (dk_at dksX3_goesOn_5 7 rfl rfl)
theorem dX3_goesOn_127 : decode cX3_goesOn 127 = .ok (.invokevirtual 52, 3) := dk_182 0 52 (dk_at dksX3_goesOn_5 10 rfl rfl)
theorem dX3_goesOn_130 : decode cX3_goesOn 130 = .ok (.checkcast 56, 3) := dk_192 0 56 (dk_at dksX3_goesOn_5 13 rfl rfl)
theorem dX3_goesOn_133 : decode cX3_goesOn 133 = .ok (.astore_n 1, 1) := dk_76 (dk_at dksX3_goesOn_5 16 rfl rfl)
theorem dX3_goesOn_134 : decode cX3_goesOn 134 = .ok (.aload_n 0, 1) := dk_42 (dk_at dksX3_goesOn_5 17 rfl rfl)
theorem dX3_goesOn_135 : decode cX3_goesOn 135 = .ok (.dup, 1) := dk_89 (dk_at dksX3_goesOn_5 18 rfl rfl)
theorem dX3_goesOn_136 : decode cX3_goesOn 136 = .ok (.getfield 22, 3) := dk_180 0 22 (dk_at dksX3_goesOn_5 19 rfl rfl)
theorem dX3_goesOn_139 : decode cX3_goesOn 139 = .ok (.iconst 1, 1) := dk_4 (dk_at dksX3_goesOn_5 22 rfl rfl)
theorem dX3_goesOn_140 : decode cX3_goesOn 140 = .ok (.iadd, 1) := dk_96 (dk_at dksX3_goesOn_5 23 rfl rfl)
theorem dX3_goesOn_141 : decode cX3_goesOn 141 = .ok (.putfield 22, 3) := dk_181 0 22 (dk_at dksX3_goesOn_6 0 rfl rfl)
theorem dX3_goesOn_144 : decode cX3_goesOn 144 = .ok (.aload_n 0, 1) := dk_42 (dk_at dksX3_goesOn_6 3 rfl rfl)
theorem dX3_goesOn_145 : decode cX3_goesOn 145 = .ok (.aload_n 1, 1) := dk_43 (dk_at dksX3_goesOn_6 4 rfl rfl)
theorem dX3_goesOn_146 : decode cX3_goesOn 146 = .ok (.invokevirtual 58, 3) := dk_182 0 58 (dk_at dksX3_goesOn_6 5 rfl rfl)
theorem dX3_goesOn_149 : decode cX3_goesOn 149 = .ok (.ifCond .eq 13, 3) := dk_153 0 13 (dk_at dksX3_goesOn_6 8 rfl rfl)
theorem dX3_goesOn_152 : decode cX3_goesOn 152 = .ok (.aload_n 0, 1) := dk_42 (dk_at dksX3_goesOn_6 11 rfl rfl)
theorem dX3_goesOn_153 : decode cX3_goesOn 153 = .ok (.aload_n 1, 1) := dk_43 (dk_at dksX3_goesOn_6 12 rfl rfl)
theorem dX3_goesOn_154 : decode cX3_goesOn 154 = .ok (.getfield 99, 3) := dk_180 0 99 (dk_at dksX3_goesOn_6 13 rfl rfl)
theorem dX3_goesOn_157 : decode cX3_goesOn 157 = .ok (.putfield 26, 3) := dk_181 0 26 (dk_at dksX3_goesOn_6 16 rfl rfl)
theorem dX3_goesOn_160 : decode cX3_goesOn 160 = .ok (.iconst 1, 1) := dk_4 (dk_at dksX3_goesOn_6 19 rfl rfl)
theorem dX3_goesOn_161 : decode cX3_goesOn 161 = .ok (.ireturn, 1) := dk_172 (dk_at dksX3_goesOn_6 20 rfl rfl)
theorem dX3_goesOn_162 : decode cX3_goesOn 162 = .ok (.goto (-63), 3) := dk_167 255 193 (dk_at dksX3_goesOn_6 21 rfl rfl)
theorem dX3_goesOn_165 : decode cX3_goesOn 165 = .ok (.aload_n 0, 1) := dk_42 (dk_at dksX3_goesOn_7 0 rfl rfl)
theorem dX3_goesOn_166 : decode cX3_goesOn 166 = .ok (.iconst (-1), 1) := dk_2 (dk_at dksX3_goesOn_7 1 rfl rfl)
theorem dX3_goesOn_167 : decode cX3_goesOn 167 = .ok (.putfield 22, 3) := dk_181 0 22 (dk_at dksX3_goesOn_7 2 rfl rfl)
theorem dX3_goesOn_170 : decode cX3_goesOn 170 = .ok (.aload_n 0, 1) := dk_42 (dk_at dksX3_goesOn_7 5 rfl rfl)
theorem dX3_goesOn_171 : decode cX3_goesOn 171 = .ok (.dup, 1) := dk_89 (dk_at dksX3_goesOn_7 6 rfl rfl)
theorem dX3_goesOn_172 : decode cX3_goesOn 172 = .ok (.getfield 33, 3) := dk_180 0 33 (dk_at dksX3_goesOn_7 7 rfl rfl)
theorem dX3_goesOn_175 : decode cX3_goesOn 175 = .ok (.iconst 1, 1) := dk_4 (dk_at dksX3_goesOn_7 10 rfl rfl)
theorem dX3_goesOn_176 : decode cX3_goesOn 176 = .ok (.iadd, 1) := dk_96 (dk_at dksX3_goesOn_7 11 rfl rfl)
theorem dX3_goesOn_177 : decode cX3_goesOn 177 = .ok (.putfield 33, 3) := dk_181 0 33 (dk_at dksX3_goesOn_7 12 rfl rfl)
theorem dX3_goesOn_180 : decode cX3_goesOn 180 = .ok (.goto (-180), 3) := dk_167 255 76 (dk_at dksX3_goesOn_7 15 rfl rfl)
theorem dX3_goesOn_183 : decode cX3_goesOn 183 = .ok (.iconst 0, 1) := dk_3 (dk_at dksX3_goesOn_7 18 rfl rfl)
theorem dX3_goesOn_184 : decode cX3_goesOn 184 = .ok (.ireturn, 1) := dk_172 (dk_at dksX3_goesOn_7 19 rfl rfl)
abbrev cX3_isFirst : ByteArray := prog_3_method_5_code
def yX3_isFirst : MethodName := ⟨RX3, "isFirst", "()Z"⟩
def dkwX3_isFirst_2 : List UInt8 := [153, 0, 10, 42, 182, 0, 89, 153, 0, 7, 4, 167, 0, 4, 3, 172]
abbrev dktX3_isFirst_2 : List UInt8 := dkwX3_isFirst_2 ++ []
def dkwX3_isFirst_1 : List UInt8 := [182, 0, 73, 153, 0, 34, 42, 180, 0, 29, 180, 0, 68, 198, 0, 20, 42, 180, 0, 29, 180, 0, 85]
abbrev dktX3_isFirst_1 : List UInt8 := dkwX3_isFirst_1 ++ dktX3_isFirst_2
def dkwX3_isFirst_0 : List UInt8 := [42, 180, 0, 15, 184, 0, 79, 42, 180, 0, 29, 180, 0, 83, 42, 180, 0, 36, 42, 180, 0, 15]
abbrev dktX3_isFirst_0 : List UInt8 := dkwX3_isFirst_0 ++ dktX3_isFirst_1
theorem dksX3_isFirst_0 : cX3_isFirst.data.toList.drop 0 = dktX3_isFirst_0 := by decide +kernel
theorem dksX3_isFirst_1 : cX3_isFirst.data.toList.drop 22 = dktX3_isFirst_1 := dk_seg dksX3_isFirst_0 22 rfl rfl
theorem dksX3_isFirst_2 : cX3_isFirst.data.toList.drop 45 = dktX3_isFirst_2 := dk_seg dksX3_isFirst_1 23 rfl rfl
theorem dX3_isFirst_0 : decode cX3_isFirst 0 = .ok (.aload_n 0, 1) := dk_42 (dk_at dksX3_isFirst_0 0 rfl rfl)
theorem dX3_isFirst_1 : decode cX3_isFirst 1 = .ok (.getfield 15, 3) := dk_180 0 15 (dk_at dksX3_isFirst_0 1 rfl rfl)
theorem dX3_isFirst_4 : decode cX3_isFirst 4 = .ok (.invokestatic 79, 3) := dk_184 0 79 (dk_at dksX3_isFirst_0 4 rfl rfl)
theorem dX3_isFirst_7 : decode cX3_isFirst 7 = .ok (.aload_n 0, 1) := dk_42 (dk_at dksX3_isFirst_0 7 rfl rfl)
theorem dX3_isFirst_8 : decode cX3_isFirst 8 = .ok (.getfield 29, 3) := dk_180 0 29 (dk_at dksX3_isFirst_0 8 rfl rfl)
theorem dX3_isFirst_11 : decode cX3_isFirst 11 = .ok (.getfield 83, 3) := dk_180 0 83 (dk_at dksX3_isFirst_0 11 rfl rfl)
theorem dX3_isFirst_14 : decode cX3_isFirst 14 = .ok (.aload_n 0, 1) := dk_42 (dk_at dksX3_isFirst_0 14 rfl rfl)
theorem dX3_isFirst_15 : decode cX3_isFirst 15 = .ok (.getfield 36, 3) := dk_180 0 36 (dk_at dksX3_isFirst_0 15 rfl rfl)
theorem dX3_isFirst_18 : decode cX3_isFirst 18 = .ok (.aload_n 0, 1) := dk_42 (dk_at dksX3_isFirst_0 18 rfl rfl)
theorem dX3_isFirst_19 : decode cX3_isFirst 19 = .ok (.getfield 15, 3) := dk_180 0 15 (dk_at dksX3_isFirst_0 19 rfl rfl)
theorem dX3_isFirst_22 : decode cX3_isFirst 22 = .ok (.invokevirtual 73, 3) := dk_182 0 73 (dk_at dksX3_isFirst_1 0 rfl rfl)
theorem dX3_isFirst_25 : decode cX3_isFirst 25 = .ok (.ifCond .eq 34, 3) := dk_153 0 34 (dk_at dksX3_isFirst_1 3 rfl rfl)
theorem dX3_isFirst_28 : decode cX3_isFirst 28 = .ok (.aload_n 0, 1) := dk_42 (dk_at dksX3_isFirst_1 6 rfl rfl)
theorem dX3_isFirst_29 : decode cX3_isFirst 29 = .ok (.getfield 29, 3) := dk_180 0 29 (dk_at dksX3_isFirst_1 7 rfl rfl)
theorem dX3_isFirst_32 : decode cX3_isFirst 32 = .ok (.getfield 68, 3) := dk_180 0 68 (dk_at dksX3_isFirst_1 10 rfl rfl)
theorem dX3_isFirst_35 : decode cX3_isFirst 35 = .ok (.ifnull 20, 3) := dk_198 0 20 (dk_at dksX3_isFirst_1 13 rfl rfl)
theorem dX3_isFirst_38 : decode cX3_isFirst 38 = .ok (.aload_n 0, 1) := dk_42 (dk_at dksX3_isFirst_1 16 rfl rfl)
theorem dX3_isFirst_39 : decode cX3_isFirst 39 = .ok (.getfield 29, 3) := dk_180 0 29 (dk_at dksX3_isFirst_1 17 rfl rfl)
theorem dX3_isFirst_42 : decode cX3_isFirst 42 = .ok (.getfield 85, 3) := dk_180 0 85 (dk_at dksX3_isFirst_1 20 rfl rfl)
theorem dX3_isFirst_45 : decode cX3_isFirst 45 = .ok (.ifCond .eq 10, 3) := dk_153 0 10 (dk_at dksX3_isFirst_2 0 rfl rfl)
theorem dX3_isFirst_48 : decode cX3_isFirst 48 = .ok (.aload_n 0, 1) := dk_42 (dk_at dksX3_isFirst_2 3 rfl rfl)
theorem dX3_isFirst_49 : decode cX3_isFirst 49 = .ok (.invokevirtual 89, 3) := dk_182 0 89 (dk_at dksX3_isFirst_2 4 rfl rfl)
theorem dX3_isFirst_52 : decode cX3_isFirst 52 = .ok (.ifCond .eq 7, 3) := dk_153 0 7 (dk_at dksX3_isFirst_2 7 rfl rfl)
theorem dX3_isFirst_55 : decode cX3_isFirst 55 = .ok (.iconst 1, 1) := dk_4 (dk_at dksX3_isFirst_2 10 rfl rfl)
theorem dX3_isFirst_56 : decode cX3_isFirst 56 = .ok (.goto 4, 3) := dk_167 0 4 (dk_at dksX3_isFirst_2 11 rfl rfl)
theorem dX3_isFirst_59 : decode cX3_isFirst 59 = .ok (.iconst 0, 1) := dk_3 (dk_at dksX3_isFirst_2 14 rfl rfl)
theorem dX3_isFirst_60 : decode cX3_isFirst 60 = .ok (.ireturn, 1) := dk_172 (dk_at dksX3_isFirst_2 15 rfl rfl)
abbrev cX3_isFulfilled : ByteArray := prog_3_method_3_code
def yX3_isFulfilled : MethodName := ⟨RX3, "isFulfilled", "()Z"⟩
def dkwX3_isFulfilled_2 : List UInt8 := [154, 0, 7, 4, 167, 0, 4, 3, 172]
abbrev dktX3_isFulfilled_2 : List UInt8 := dkwX3_isFulfilled_2 ++ []
def dkwX3_isFulfilled_1 : List UInt8 := [180, 0, 40, 28, 182, 0, 52, 192, 0, 56, 182, 0, 58, 128, 60, 132, 2, 1, 167, 255, 218, 27]
abbrev dktX3_isFulfilled_1 : List UInt8 := dkwX3_isFulfilled_1 ++ dktX3_isFulfilled_2
def dkwX3_isFulfilled_0 : List UInt8 := [3, 60, 3, 61, 28, 42, 180, 0, 3, 180, 0, 40, 182, 0, 46, 162, 0, 30, 27, 42, 42, 180, 0, 3]
abbrev dktX3_isFulfilled_0 : List UInt8 := dkwX3_isFulfilled_0 ++ dktX3_isFulfilled_1
theorem dksX3_isFulfilled_0 : cX3_isFulfilled.data.toList.drop 0 = dktX3_isFulfilled_0 := by decide +kernel
theorem dksX3_isFulfilled_1 : cX3_isFulfilled.data.toList.drop 24 = dktX3_isFulfilled_1 := dk_seg dksX3_isFulfilled_0 24 rfl rfl
theorem dksX3_isFulfilled_2 : cX3_isFulfilled.data.toList.drop 46 = dktX3_isFulfilled_2 := dk_seg dksX3_isFulfilled_1 22 rfl rfl
theorem dX3_isFulfilled_0 : decode cX3_isFulfilled 0 = .ok (.iconst 0, 1) := dk_3 (dk_at dksX3_isFulfilled_0 0 rfl rfl)
theorem dX3_isFulfilled_1 : decode cX3_isFulfilled 1 = .ok (.istore_n 1, 1) := dk_60 (dk_at dksX3_isFulfilled_0 1 rfl rfl)
theorem dX3_isFulfilled_2 : decode cX3_isFulfilled 2 = .ok (.iconst 0, 1) := dk_3 (dk_at dksX3_isFulfilled_0 2 rfl rfl)
theorem dX3_isFulfilled_3 : decode cX3_isFulfilled 3 = .ok (.istore_n 2, 1) := dk_61 (dk_at dksX3_isFulfilled_0 3 rfl rfl)
theorem dX3_isFulfilled_4 : decode cX3_isFulfilled 4 = .ok (.iload_n 2, 1) := dk_28 (dk_at dksX3_isFulfilled_0 4 rfl rfl)
theorem dX3_isFulfilled_5 : decode cX3_isFulfilled 5 = .ok (.aload_n 0, 1) := dk_42 (dk_at dksX3_isFulfilled_0 5 rfl rfl)
theorem dX3_isFulfilled_6 : decode cX3_isFulfilled 6 = .ok (.getfield 3, 3) := dk_180 0 3 (dk_at dksX3_isFulfilled_0 6 rfl rfl)
theorem dX3_isFulfilled_9 : decode cX3_isFulfilled 9 = .ok (.getfield 40, 3) := dk_180 0 40 (dk_at dksX3_isFulfilled_0 9 rfl rfl)
theorem dX3_isFulfilled_12 : decode cX3_isFulfilled 12 = .ok (.invokevirtual 46, 3) := dk_182 0 46 (dk_at dksX3_isFulfilled_0 12 rfl rfl)
theorem dX3_isFulfilled_15 : decode cX3_isFulfilled 15 = .ok (.if_icmp .ge 30, 3) := dk_162 0 30 (dk_at dksX3_isFulfilled_0 15 rfl rfl)
theorem dX3_isFulfilled_18 : decode cX3_isFulfilled 18 = .ok (.iload_n 1, 1) := dk_27 (dk_at dksX3_isFulfilled_0 18 rfl rfl)
theorem dX3_isFulfilled_19 : decode cX3_isFulfilled 19 = .ok (.aload_n 0, 1) := dk_42 (dk_at dksX3_isFulfilled_0 19 rfl rfl)
theorem dX3_isFulfilled_20 : decode cX3_isFulfilled 20 = .ok (.aload_n 0, 1) := dk_42 (dk_at dksX3_isFulfilled_0 20 rfl rfl)
theorem dX3_isFulfilled_21 : decode cX3_isFulfilled 21 = .ok (.getfield 3, 3) := dk_180 0 3 (dk_at dksX3_isFulfilled_0 21 rfl rfl)
theorem dX3_isFulfilled_24 : decode cX3_isFulfilled 24 = .ok (.getfield 40, 3) := dk_180 0 40 (dk_at dksX3_isFulfilled_1 0 rfl rfl)
theorem dX3_isFulfilled_27 : decode cX3_isFulfilled 27 = .ok (.iload_n 2, 1) := dk_28 (dk_at dksX3_isFulfilled_1 3 rfl rfl)
theorem dX3_isFulfilled_28 : decode cX3_isFulfilled 28 = .ok (.invokevirtual 52, 3) := dk_182 0 52 (dk_at dksX3_isFulfilled_1 4 rfl rfl)
theorem dX3_isFulfilled_31 : decode cX3_isFulfilled 31 = .ok (.checkcast 56, 3) := dk_192 0 56 (dk_at dksX3_isFulfilled_1 7 rfl rfl)
theorem dX3_isFulfilled_34 : decode cX3_isFulfilled 34 = .ok (.invokevirtual 58, 3) := dk_182 0 58 (dk_at dksX3_isFulfilled_1 10 rfl rfl)
theorem dX3_isFulfilled_37 : decode cX3_isFulfilled 37 = .ok (.ior, 1) := dk_128 (dk_at dksX3_isFulfilled_1 13 rfl rfl)
theorem dX3_isFulfilled_38 : decode cX3_isFulfilled 38 = .ok (.istore_n 1, 1) := dk_60 (dk_at dksX3_isFulfilled_1 14 rfl rfl)
theorem dX3_isFulfilled_39 : decode cX3_isFulfilled 39 = .ok (.iinc 2 1, 3) := dk_132 2 1 (dk_at dksX3_isFulfilled_1 15 rfl rfl)
theorem dX3_isFulfilled_42 : decode cX3_isFulfilled 42 = .ok (.goto (-38), 3) := dk_167 255 218 (dk_at dksX3_isFulfilled_1 18 rfl rfl)
theorem dX3_isFulfilled_45 : decode cX3_isFulfilled 45 = .ok (.iload_n 1, 1) := dk_27 (dk_at dksX3_isFulfilled_1 21 rfl rfl)
theorem dX3_isFulfilled_46 : decode cX3_isFulfilled 46 = .ok (.ifCond .ne 7, 3) := dk_154 0 7 (dk_at dksX3_isFulfilled_2 0 rfl rfl)
theorem dX3_isFulfilled_49 : decode cX3_isFulfilled 49 = .ok (.iconst 1, 1) := dk_4 (dk_at dksX3_isFulfilled_2 3 rfl rfl)
theorem dX3_isFulfilled_50 : decode cX3_isFulfilled 50 = .ok (.goto 4, 3) := dk_167 0 4 (dk_at dksX3_isFulfilled_2 4 rfl rfl)
theorem dX3_isFulfilled_53 : decode cX3_isFulfilled 53 = .ok (.iconst 0, 1) := dk_3 (dk_at dksX3_isFulfilled_2 7 rfl rfl)
theorem dX3_isFulfilled_54 : decode cX3_isFulfilled 54 = .ok (.ireturn, 1) := dk_172 (dk_at dksX3_isFulfilled_2 8 rfl rfl)
abbrev cX3_isSecond : ByteArray := prog_3_method_4_code
def yX3_isSecond : MethodName := ⟨RX3, "isSecond", "(LMatchmakerRules$Fact;)Z"⟩
def dkwX3_isSecond_1 : List UInt8 := [180, 0, 19, 182, 0, 73, 172]
abbrev dktX3_isSecond_1 : List UInt8 := dkwX3_isSecond_1 ++ []
def dkwX3_isSecond_0 : List UInt8 := [42, 180, 0, 15, 3, 42, 180, 0, 19, 3, 6, 184, 0, 62, 42, 180, 0, 29, 180, 0, 68, 43, 42]
abbrev dktX3_isSecond_0 : List UInt8 := dkwX3_isSecond_0 ++ dktX3_isSecond_1
theorem dksX3_isSecond_0 : cX3_isSecond.data.toList.drop 0 = dktX3_isSecond_0 := by decide +kernel
theorem dksX3_isSecond_1 : cX3_isSecond.data.toList.drop 23 = dktX3_isSecond_1 := dk_seg dksX3_isSecond_0 23 rfl rfl
theorem dX3_isSecond_0 : decode cX3_isSecond 0 = .ok (.aload_n 0, 1) := dk_42 (dk_at dksX3_isSecond_0 0 rfl rfl)
theorem dX3_isSecond_1 : decode cX3_isSecond 1 = .ok (.getfield 15, 3) := dk_180 0 15 (dk_at dksX3_isSecond_0 1 rfl rfl)
theorem dX3_isSecond_4 : decode cX3_isSecond 4 = .ok (.iconst 0, 1) := dk_3 (dk_at dksX3_isSecond_0 4 rfl rfl)
theorem dX3_isSecond_5 : decode cX3_isSecond 5 = .ok (.aload_n 0, 1) := dk_42 (dk_at dksX3_isSecond_0 5 rfl rfl)
theorem dX3_isSecond_6 : decode cX3_isSecond 6 = .ok (.getfield 19, 3) := dk_180 0 19 (dk_at dksX3_isSecond_0 6 rfl rfl)
theorem dX3_isSecond_9 : decode cX3_isSecond 9 = .ok (.iconst 0, 1) := dk_3 (dk_at dksX3_isSecond_0 9 rfl rfl)
theorem dX3_isSecond_10 : decode cX3_isSecond 10 = .ok (.iconst 3, 1) := dk_6 (dk_at dksX3_isSecond_0 10 rfl rfl)
theorem dX3_isSecond_11 : decode cX3_isSecond 11 = .ok (.invokestatic 62, 3) := dk_184 0 62 (dk_at dksX3_isSecond_0 11 rfl rfl)
theorem dX3_isSecond_14 : decode cX3_isSecond 14 = .ok (.aload_n 0, 1) := dk_42 (dk_at dksX3_isSecond_0 14 rfl rfl)
theorem dX3_isSecond_15 : decode cX3_isSecond 15 = .ok (.getfield 29, 3) := dk_180 0 29 (dk_at dksX3_isSecond_0 15 rfl rfl)
theorem dX3_isSecond_18 : decode cX3_isSecond 18 = .ok (.getfield 68, 3) := dk_180 0 68 (dk_at dksX3_isSecond_0 18 rfl rfl)
theorem dX3_isSecond_21 : decode cX3_isSecond 21 = .ok (.aload_n 1, 1) := dk_43 (dk_at dksX3_isSecond_0 21 rfl rfl)
theorem dX3_isSecond_22 : decode cX3_isSecond 22 = .ok (.aload_n 0, 1) := dk_42 (dk_at dksX3_isSecond_0 22 rfl rfl)
theorem dX3_isSecond_23 : decode cX3_isSecond 23 = .ok (.getfield 19, 3) := dk_180 0 19 (dk_at dksX3_isSecond_1 0 rfl rfl)
theorem dX3_isSecond_26 : decode cX3_isSecond 26 = .ok (.invokevirtual 73, 3) := dk_182 0 73 (dk_at dksX3_isSecond_1 3 rfl rfl)
theorem dX3_isSecond_29 : decode cX3_isSecond 29 = .ok (.ireturn, 1) := dk_172 (dk_at dksX3_isSecond_1 6 rfl rfl)
abbrev cX3_newest : ByteArray := prog_3_method_7_code
def yX3_newest : MethodName := ⟨RX3, "newest", "()I"⟩
def dkwX3_newest_0 : List UInt8 := [42, 180, 0, 36, 180, 0, 99, 42, 180, 0, 26, 184, 0, 102, 172]
abbrev dktX3_newest_0 : List UInt8 := dkwX3_newest_0 ++ []
theorem dksX3_newest_0 : cX3_newest.data.toList.drop 0 = dktX3_newest_0 := by decide +kernel
theorem dX3_newest_0 : decode cX3_newest 0 = .ok (.aload_n 0, 1) := dk_42 (dk_at dksX3_newest_0 0 rfl rfl)
theorem dX3_newest_1 : decode cX3_newest 1 = .ok (.getfield 36, 3) := dk_180 0 36 (dk_at dksX3_newest_0 1 rfl rfl)
theorem dX3_newest_4 : decode cX3_newest 4 = .ok (.getfield 99, 3) := dk_180 0 99 (dk_at dksX3_newest_0 4 rfl rfl)
theorem dX3_newest_7 : decode cX3_newest 7 = .ok (.aload_n 0, 1) := dk_42 (dk_at dksX3_newest_0 7 rfl rfl)
theorem dX3_newest_8 : decode cX3_newest 8 = .ok (.getfield 26, 3) := dk_180 0 26 (dk_at dksX3_newest_0 8 rfl rfl)
theorem dX3_newest_11 : decode cX3_newest 11 = .ok (.invokestatic 102, 3) := dk_184 0 102 (dk_at dksX3_newest_0 11 rfl rfl)
theorem dX3_newest_14 : decode cX3_newest 14 = .ok (.ireturn, 1) := dk_172 (dk_at dksX3_newest_0 14 rfl rfl)
abbrev cX3_isDue : ByteArray := prog_3_method_8_code
def yX3_isDue : MethodName := ⟨RX3, "isDue", "()Z"⟩
def dkwX3_isDue_2 : List UInt8 := [180, 0, 26, 160, 0, 5, 3, 172, 132, 1, 1, 167, 255, 200, 4, 172]
abbrev dktX3_isDue_2 : List UInt8 := dkwX3_isDue_2 ++ []
def dkwX3_isDue_1 : List UInt8 := [182, 0, 52, 192, 0, 111, 77, 44, 180, 0, 113, 42, 180, 0, 29, 166, 0, 16, 44, 180, 0, 114, 42]
abbrev dktX3_isDue_1 : List UInt8 := dkwX3_isDue_1 ++ dktX3_isDue_2
def dkwX3_isDue_0 : List UInt8 := [3, 60, 27, 42, 180, 0, 36, 180, 0, 108, 182, 0, 46, 162, 0, 48, 42, 180, 0, 36, 180, 0, 108, 27]
abbrev dktX3_isDue_0 : List UInt8 := dkwX3_isDue_0 ++ dktX3_isDue_1
theorem dksX3_isDue_0 : cX3_isDue.data.toList.drop 0 = dktX3_isDue_0 := by decide +kernel
theorem dksX3_isDue_1 : cX3_isDue.data.toList.drop 24 = dktX3_isDue_1 := dk_seg dksX3_isDue_0 24 rfl rfl
theorem dksX3_isDue_2 : cX3_isDue.data.toList.drop 47 = dktX3_isDue_2 := dk_seg dksX3_isDue_1 23 rfl rfl
theorem dX3_isDue_0 : decode cX3_isDue 0 = .ok (.iconst 0, 1) := dk_3 (dk_at dksX3_isDue_0 0 rfl rfl)
theorem dX3_isDue_1 : decode cX3_isDue 1 = .ok (.istore_n 1, 1) := dk_60 (dk_at dksX3_isDue_0 1 rfl rfl)
theorem dX3_isDue_2 : decode cX3_isDue 2 = .ok (.iload_n 1, 1) := dk_27 (dk_at dksX3_isDue_0 2 rfl rfl)
theorem dX3_isDue_3 : decode cX3_isDue 3 = .ok (.aload_n 0, 1) := dk_42 (dk_at dksX3_isDue_0 3 rfl rfl)
theorem dX3_isDue_4 : decode cX3_isDue 4 = .ok (.getfield 36, 3) := dk_180 0 36 (dk_at dksX3_isDue_0 4 rfl rfl)
theorem dX3_isDue_7 : decode cX3_isDue 7 = .ok (.getfield 108, 3) := dk_180 0 108 (dk_at dksX3_isDue_0 7 rfl rfl)
theorem dX3_isDue_10 : decode cX3_isDue 10 = .ok (.invokevirtual 46, 3) := dk_182 0 46 (dk_at dksX3_isDue_0 10 rfl rfl)
theorem dX3_isDue_13 : decode cX3_isDue 13 = .ok (.if_icmp .ge 48, 3) := dk_162 0 48 (dk_at dksX3_isDue_0 13 rfl rfl)
theorem dX3_isDue_16 : decode cX3_isDue 16 = .ok (.aload_n 0, 1) := dk_42 (dk_at dksX3_isDue_0 16 rfl rfl)
theorem dX3_isDue_17 : decode cX3_isDue 17 = .ok (.getfield 36, 3) := dk_180 0 36 (dk_at dksX3_isDue_0 17 rfl rfl)
theorem dX3_isDue_20 : decode cX3_isDue 20 = .ok (.getfield 108, 3) := dk_180 0 108 (dk_at dksX3_isDue_0 20 rfl rfl)
theorem dX3_isDue_23 : decode cX3_isDue 23 = .ok (.iload_n 1, 1) := dk_27 (dk_at dksX3_isDue_0 23 rfl rfl)
theorem dX3_isDue_24 : decode cX3_isDue 24 = .ok (.invokevirtual 52, 3) := dk_182 0 52 (dk_at dksX3_isDue_1 0 rfl rfl)
theorem dX3_isDue_27 : decode cX3_isDue 27 = .ok (.checkcast 111, 3) := dk_192 0 111 (dk_at dksX3_isDue_1 3 rfl rfl)
theorem dX3_isDue_30 : decode cX3_isDue 30 = .ok (.astore_n 2, 1) := dk_77 (dk_at dksX3_isDue_1 6 rfl rfl)
theorem dX3_isDue_31 : decode cX3_isDue 31 = .ok (.aload_n 2, 1) := dk_44 (dk_at dksX3_isDue_1 7 rfl rfl)
theorem dX3_isDue_32 : decode cX3_isDue 32 = .ok (.getfield 113, 3) := dk_180 0 113 (dk_at dksX3_isDue_1 8 rfl rfl)
theorem dX3_isDue_35 : decode cX3_isDue 35 = .ok (.aload_n 0, 1) := dk_42 (dk_at dksX3_isDue_1 11 rfl rfl)
theorem dX3_isDue_36 : decode cX3_isDue 36 = .ok (.getfield 29, 3) := dk_180 0 29 (dk_at dksX3_isDue_1 12 rfl rfl)
theorem dX3_isDue_39 : decode cX3_isDue 39 = .ok (.if_acmp .ne 16, 3) := dk_166 0 16 (dk_at dksX3_isDue_1 15 rfl rfl)
theorem dX3_isDue_42 : decode cX3_isDue 42 = .ok (.aload_n 2, 1) := dk_44 (dk_at dksX3_isDue_1 18 rfl rfl)
theorem dX3_isDue_43 : decode cX3_isDue 43 = .ok (.getfield 114, 3) := dk_180 0 114 (dk_at dksX3_isDue_1 19 rfl rfl)
theorem dX3_isDue_46 : decode cX3_isDue 46 = .ok (.aload_n 0, 1) := dk_42 (dk_at dksX3_isDue_1 22 rfl rfl)
theorem dX3_isDue_47 : decode cX3_isDue 47 = .ok (.getfield 26, 3) := dk_180 0 26 (dk_at dksX3_isDue_2 0 rfl rfl)
theorem dX3_isDue_50 : decode cX3_isDue 50 = .ok (.if_icmp .ne 5, 3) := dk_160 0 5 (dk_at dksX3_isDue_2 3 rfl rfl)
theorem dX3_isDue_53 : decode cX3_isDue 53 = .ok (.iconst 0, 1) := dk_3 (dk_at dksX3_isDue_2 6 rfl rfl)
theorem dX3_isDue_54 : decode cX3_isDue 54 = .ok (.ireturn, 1) := dk_172 (dk_at dksX3_isDue_2 7 rfl rfl)
theorem dX3_isDue_55 : decode cX3_isDue 55 = .ok (.iinc 1 1, 3) := dk_132 1 1 (dk_at dksX3_isDue_2 8 rfl rfl)
theorem dX3_isDue_58 : decode cX3_isDue 58 = .ok (.goto (-56), 3) := dk_167 255 200 (dk_at dksX3_isDue_2 11 rfl rfl)
theorem dX3_isDue_61 : decode cX3_isDue 61 = .ok (.iconst 1, 1) := dk_4 (dk_at dksX3_isDue_2 14 rfl rfl)
theorem dX3_isDue_62 : decode cX3_isDue 62 = .ok (.ireturn, 1) := dk_172 (dk_at dksX3_isDue_2 15 rfl rfl)
abbrev cX3_isAheadOf : ByteArray := prog_3_method_10_code
def yX3_isAheadOf : MethodName := ⟨RX3, "isAheadOf", "(LMatchmakerRules$Firing;)Z"⟩
def dkwX3_isAheadOf_6 : List UInt8 := [180, 0, 26, 43, 180, 0, 114, 162, 0, 7, 4, 167, 0, 4, 3, 172]
abbrev dktX3_isAheadOf_6 : List UInt8 := dkwX3_isAheadOf_6 ++ []
def dkwX3_isAheadOf_5 : List UInt8 := [167, 0, 39, 3, 167, 0, 35, 29, 153, 0, 15, 29, 156, 0, 7, 4, 167, 0, 23, 3, 167, 0, 19, 42]
abbrev dktX3_isAheadOf_5 : List UInt8 := dkwX3_isAheadOf_5 ++ dktX3_isAheadOf_6
def dkwX3_isAheadOf_4 : List UInt8 := [100, 61, 42, 180, 0, 36, 180, 0, 99, 43, 180, 0, 115, 100, 62, 28, 153, 0, 15, 28, 156, 0, 7, 4]
abbrev dktX3_isAheadOf_4 : List UInt8 := dkwX3_isAheadOf_4 ++ dktX3_isAheadOf_5
def dkwX3_isAheadOf_3 : List UInt8 := [180, 0, 124, 42, 180, 0, 29, 182, 0, 127, 42, 180, 0, 3, 180, 0, 124, 43, 180, 0, 113, 182, 0, 127]
abbrev dktX3_isAheadOf_3 : List UInt8 := dkwX3_isAheadOf_3 ++ dktX3_isAheadOf_4
def dkwX3_isAheadOf_2 : List UInt8 := [159, 0, 20, 42, 182, 0, 120, 43, 182, 0, 123, 164, 0, 7, 4, 167, 0, 4, 3, 172, 42, 180, 0, 3]
abbrev dktX3_isAheadOf_2 : List UInt8 := dkwX3_isAheadOf_2 ++ dktX3_isAheadOf_3
def dkwX3_isAheadOf_1 : List UInt8 := [43, 180, 0, 113, 180, 0, 117, 164, 0, 7, 4, 167, 0, 4, 3, 172, 42, 182, 0, 120, 43, 182, 0, 123]
abbrev dktX3_isAheadOf_1 : List UInt8 := dkwX3_isAheadOf_1 ++ dktX3_isAheadOf_2
def dkwX3_isAheadOf_0 : List UInt8 := [42, 180, 0, 29, 180, 0, 117, 43, 180, 0, 113, 180, 0, 117, 159, 0, 26, 42, 180, 0, 29, 180, 0, 117]
abbrev dktX3_isAheadOf_0 : List UInt8 := dkwX3_isAheadOf_0 ++ dktX3_isAheadOf_1
theorem dksX3_isAheadOf_0 : cX3_isAheadOf.data.toList.drop 0 = dktX3_isAheadOf_0 := by decide +kernel
theorem dksX3_isAheadOf_1 : cX3_isAheadOf.data.toList.drop 24 = dktX3_isAheadOf_1 := dk_seg dksX3_isAheadOf_0 24 rfl rfl
theorem dksX3_isAheadOf_2 : cX3_isAheadOf.data.toList.drop 48 = dktX3_isAheadOf_2 := dk_seg dksX3_isAheadOf_1 24 rfl rfl
theorem dksX3_isAheadOf_3 : cX3_isAheadOf.data.toList.drop 72 = dktX3_isAheadOf_3 := dk_seg dksX3_isAheadOf_2 24 rfl rfl
theorem dksX3_isAheadOf_4 : cX3_isAheadOf.data.toList.drop 96 = dktX3_isAheadOf_4 := dk_seg dksX3_isAheadOf_3 24 rfl rfl
theorem dksX3_isAheadOf_5 : cX3_isAheadOf.data.toList.drop 120 = dktX3_isAheadOf_5 := dk_seg dksX3_isAheadOf_4 24 rfl rfl
theorem dksX3_isAheadOf_6 : cX3_isAheadOf.data.toList.drop 144 = dktX3_isAheadOf_6 := dk_seg dksX3_isAheadOf_5 24 rfl rfl
theorem dX3_isAheadOf_0 : decode cX3_isAheadOf 0 = .ok (.aload_n 0, 1) := dk_42 (dk_at dksX3_isAheadOf_0 0 rfl rfl)
theorem dX3_isAheadOf_1 : decode cX3_isAheadOf 1 = .ok (.getfield 29, 3) := dk_180 0 29 (dk_at dksX3_isAheadOf_0 1 rfl rfl)
theorem dX3_isAheadOf_4 : decode cX3_isAheadOf 4 = .ok (.getfield 117, 3) := dk_180 0 117 (dk_at dksX3_isAheadOf_0 4 rfl rfl)
theorem dX3_isAheadOf_7 : decode cX3_isAheadOf 7 = .ok (.aload_n 1, 1) := dk_43 (dk_at dksX3_isAheadOf_0 7 rfl rfl)
theorem dX3_isAheadOf_8 : decode cX3_isAheadOf 8 = .ok (.getfield 113, 3) := dk_180 0 113 (dk_at dksX3_isAheadOf_0 8 rfl rfl)
theorem dX3_isAheadOf_11 : decode cX3_isAheadOf 11 = .ok (.getfield 117, 3) := dk_180 0 117 (dk_at dksX3_isAheadOf_0 11 rfl rfl)
theorem dX3_isAheadOf_14 : decode cX3_isAheadOf 14 = .ok (.if_icmp .eq 26, 3) := dk_159 0 26 (dk_at dksX3_isAheadOf_0 14 rfl rfl)
theorem dX3_isAheadOf_17 : decode cX3_isAheadOf 17 = .ok (.aload_n 0, 1) := dk_42 (dk_at dksX3_isAheadOf_0 17 rfl rfl)
theorem dX3_isAheadOf_18 : decode cX3_isAheadOf 18 = .ok (.getfield 29, 3) := dk_180 0 29 (dk_at dksX3_isAheadOf_0 18 rfl rfl)
theorem dX3_isAheadOf_21 : decode cX3_isAheadOf 21 = .ok (.getfield 117, 3) := dk_180 0 117 (dk_at dksX3_isAheadOf_0 21 rfl rfl)
theorem dX3_isAheadOf_24 : decode cX3_isAheadOf 24 = .ok (.aload_n 1, 1) := dk_43 (dk_at dksX3_isAheadOf_1 0 rfl rfl)
theorem dX3_isAheadOf_25 : decode cX3_isAheadOf 25 = .ok (.getfield 113, 3) := dk_180 0 113 (dk_at dksX3_isAheadOf_1 1 rfl rfl)
theorem dX3_isAheadOf_28 : decode cX3_isAheadOf 28 = .ok (.getfield 117, 3) := dk_180 0 117 (dk_at dksX3_isAheadOf_1 4 rfl rfl)
theorem dX3_isAheadOf_31 : decode cX3_isAheadOf 31 = .ok (.if_icmp .le 7, 3) := dk_164 0 7 (dk_at dksX3_isAheadOf_1 7 rfl rfl)
theorem dX3_isAheadOf_34 : decode cX3_isAheadOf 34 = .ok (.iconst 1, 1) := dk_4 (dk_at dksX3_isAheadOf_1 10 rfl rfl)
theorem dX3_isAheadOf_35 : decode cX3_isAheadOf 35 = .ok (.goto 4, 3) := dk_167 0 4 (dk_at dksX3_isAheadOf_1 11 rfl rfl)
theorem dX3_isAheadOf_38 : decode cX3_isAheadOf 38 = .ok (.iconst 0, 1) := dk_3 (dk_at dksX3_isAheadOf_1 14 rfl rfl)
theorem dX3_isAheadOf_39 : decode cX3_isAheadOf 39 = .ok (.ireturn, 1) := dk_172 (dk_at dksX3_isAheadOf_1 15 rfl rfl)
theorem dX3_isAheadOf_40 : decode cX3_isAheadOf 40 = .ok (.aload_n 0, 1) := dk_42 (dk_at dksX3_isAheadOf_1 16 rfl rfl)
theorem dX3_isAheadOf_41 : decode cX3_isAheadOf 41 = .ok (.invokevirtual 120, 3) := dk_182 0 120 (dk_at dksX3_isAheadOf_1 17 rfl rfl)
theorem dX3_isAheadOf_44 : decode cX3_isAheadOf 44 = .ok (.aload_n 1, 1) := dk_43 (dk_at dksX3_isAheadOf_1 20 rfl rfl)
theorem dX3_isAheadOf_45 : decode cX3_isAheadOf 45 = .ok (.invokevirtual 123, 3) := dk_182 0 123 (dk_at dksX3_isAheadOf_1 21 rfl rfl)
theorem dX3_isAheadOf_48 : decode cX3_isAheadOf 48 = .ok (.if_icmp .eq 20, 3) := dk_159 0 20 (dk_at dksX3_isAheadOf_2 0 rfl rfl)
theorem dX3_isAheadOf_51 : decode cX3_isAheadOf 51 = .ok (.aload_n 0, 1) := dk_42 (dk_at dksX3_isAheadOf_2 3 rfl rfl)
theorem dX3_isAheadOf_52 : decode cX3_isAheadOf 52 = .ok (.invokevirtual 120, 3) := dk_182 0 120 (dk_at dksX3_isAheadOf_2 4 rfl rfl)
theorem dX3_isAheadOf_55 : decode cX3_isAheadOf 55 = .ok (.aload_n 1, 1) := dk_43 (dk_at dksX3_isAheadOf_2 7 rfl rfl)
theorem dX3_isAheadOf_56 : decode cX3_isAheadOf 56 = .ok (.invokevirtual 123, 3) := dk_182 0 123 (dk_at dksX3_isAheadOf_2 8 rfl rfl)
theorem dX3_isAheadOf_59 : decode cX3_isAheadOf 59 = .ok (.if_icmp .le 7, 3) := dk_164 0 7 (dk_at dksX3_isAheadOf_2 11 rfl rfl)
theorem dX3_isAheadOf_62 : decode cX3_isAheadOf 62 = .ok (.iconst 1, 1) := dk_4 (dk_at dksX3_isAheadOf_2 14 rfl rfl)
theorem dX3_isAheadOf_63 : decode cX3_isAheadOf 63 = .ok (.goto 4, 3) := dk_167 0 4 (dk_at dksX3_isAheadOf_2 15 rfl rfl)
theorem dX3_isAheadOf_66 : decode cX3_isAheadOf 66 = .ok (.iconst 0, 1) := dk_3 (dk_at dksX3_isAheadOf_2 18 rfl rfl)
theorem dX3_isAheadOf_67 : decode cX3_isAheadOf 67 = .ok (.ireturn, 1) := dk_172 (dk_at dksX3_isAheadOf_2 19 rfl rfl)
theorem dX3_isAheadOf_68 : decode cX3_isAheadOf 68 = .ok (.aload_n 0, 1) := dk_42 (dk_at dksX3_isAheadOf_2 20 rfl rfl)
theorem dX3_isAheadOf_69 : decode cX3_isAheadOf 69 = .ok (.getfield 3, 3) := dk_180 0 3 (dk_at dksX3_isAheadOf_2 21 rfl rfl)
theorem dX3_isAheadOf_72 : decode cX3_isAheadOf 72 = .ok (.getfield 124, 3) := dk_180 0 124 (dk_at dksX3_isAheadOf_3 0 rfl rfl)
theorem dX3_isAheadOf_75 : decode cX3_isAheadOf 75 = .ok (.aload_n 0, 1) := dk_42 (dk_at dksX3_isAheadOf_3 3 rfl rfl)
theorem dX3_isAheadOf_76 : decode cX3_isAheadOf 76 = .ok (.getfield 29, 3) := dk_180 0 29 (dk_at dksX3_isAheadOf_3 4 rfl rfl)
theorem dX3_isAheadOf_79 : decode cX3_isAheadOf 79 = .ok (.invokevirtual 127, 3) := dk_182 0 127 (dk_at dksX3_isAheadOf_3 7 rfl rfl)
theorem dX3_isAheadOf_82 : decode cX3_isAheadOf 82 = .ok (.aload_n 0, 1) := dk_42 (dk_at dksX3_isAheadOf_3 10 rfl rfl)
theorem dX3_isAheadOf_83 : decode cX3_isAheadOf 83 = .ok (.getfield 3, 3) := dk_180 0 3 (dk_at dksX3_isAheadOf_3 11 rfl rfl)
theorem dX3_isAheadOf_86 : decode cX3_isAheadOf 86 = .ok (.getfield 124, 3) := dk_180 0 124 (dk_at dksX3_isAheadOf_3 14 rfl rfl)
theorem dX3_isAheadOf_89 : decode cX3_isAheadOf 89 = .ok (.aload_n 1, 1) := dk_43 (dk_at dksX3_isAheadOf_3 17 rfl rfl)
theorem dX3_isAheadOf_90 : decode cX3_isAheadOf 90 = .ok (.getfield 113, 3) := dk_180 0 113 (dk_at dksX3_isAheadOf_3 18 rfl rfl)
theorem dX3_isAheadOf_93 : decode cX3_isAheadOf 93 = .ok (.invokevirtual 127, 3) := dk_182 0 127 (dk_at dksX3_isAheadOf_3 21 rfl rfl)
theorem dX3_isAheadOf_96 : decode cX3_isAheadOf 96 = .ok (.isub, 1) := dk_100 (dk_at dksX3_isAheadOf_4 0 rfl rfl)
theorem dX3_isAheadOf_97 : decode cX3_isAheadOf 97 = .ok (.istore_n 2, 1) := dk_61 (dk_at dksX3_isAheadOf_4 1 rfl rfl)
theorem dX3_isAheadOf_98 : decode cX3_isAheadOf 98 = .ok (.aload_n 0, 1) := dk_42 (dk_at dksX3_isAheadOf_4 2 rfl rfl)
theorem dX3_isAheadOf_99 : decode cX3_isAheadOf 99 = .ok (.getfield 36, 3) := dk_180 0 36 (dk_at dksX3_isAheadOf_4 3 rfl rfl)
theorem dX3_isAheadOf_102 : decode cX3_isAheadOf 102 = .ok (.getfield 99, 3) := dk_180 0 99 (dk_at dksX3_isAheadOf_4 6 rfl rfl)
theorem dX3_isAheadOf_105 : decode cX3_isAheadOf 105 = .ok (.aload_n 1, 1) := dk_43 (dk_at dksX3_isAheadOf_4 9 rfl rfl)
theorem dX3_isAheadOf_106 : decode cX3_isAheadOf 106 = .ok (.getfield 115, 3) := dk_180 0 115 (dk_at dksX3_isAheadOf_4 10 rfl rfl)
theorem dX3_isAheadOf_109 : decode cX3_isAheadOf 109 = .ok (.isub, 1) := dk_100 (dk_at dksX3_isAheadOf_4 13 rfl rfl)
theorem dX3_isAheadOf_110 : decode cX3_isAheadOf 110 = .ok (.istore_n 3, 1) := dk_62 (dk_at dksX3_isAheadOf_4 14 rfl rfl)
theorem dX3_isAheadOf_111 : decode cX3_isAheadOf 111 = .ok (.iload_n 2, 1) := dk_28 (dk_at dksX3_isAheadOf_4 15 rfl rfl)
theorem dX3_isAheadOf_112 : decode cX3_isAheadOf 112 = .ok (.ifCond .eq 15, 3) := dk_153 0 15 (dk_at dksX3_isAheadOf_4 16 rfl rfl)
theorem dX3_isAheadOf_115 : decode cX3_isAheadOf 115 = .ok (.iload_n 2, 1) := dk_28 (dk_at dksX3_isAheadOf_4 19 rfl rfl)
theorem dX3_isAheadOf_116 : decode cX3_isAheadOf 116 = .ok (.ifCond .ge 7, 3) := dk_156 0 7 (dk_at dksX3_isAheadOf_4 20 rfl rfl)
theorem dX3_isAheadOf_119 : decode cX3_isAheadOf 119 = .ok (.iconst 1, 1) := dk_4 (dk_at dksX3_isAheadOf_4 23 rfl rfl)
theorem dX3_isAheadOf_120 : decode cX3_isAheadOf 120 = .ok (.goto 39, 3) := dk_167 0 39 (dk_at dksX3_isAheadOf_5 0 rfl rfl)
theorem dX3_isAheadOf_123 : decode cX3_isAheadOf 123 = .ok (.iconst 0, 1) := dk_3 (dk_at dksX3_isAheadOf_5 3 rfl rfl)
theorem dX3_isAheadOf_124 : decode cX3_isAheadOf 124 = .ok (.goto 35, 3) := dk_167 0 35 (dk_at dksX3_isAheadOf_5 4 rfl rfl)
theorem dX3_isAheadOf_127 : decode cX3_isAheadOf 127 = .ok (.iload_n 3, 1) := dk_29 (dk_at dksX3_isAheadOf_5 7 rfl rfl)
theorem dX3_isAheadOf_128 : decode cX3_isAheadOf 128 = .ok (.ifCond .eq 15, 3) := dk_153 0 15 (dk_at dksX3_isAheadOf_5 8 rfl rfl)
theorem dX3_isAheadOf_131 : decode cX3_isAheadOf 131 = .ok (.iload_n 3, 1) := dk_29 (dk_at dksX3_isAheadOf_5 11 rfl rfl)
theorem dX3_isAheadOf_132 : decode cX3_isAheadOf 132 = .ok (.ifCond .ge 7, 3) := dk_156 0 7 (dk_at dksX3_isAheadOf_5 12 rfl rfl)
theorem dX3_isAheadOf_135 : decode cX3_isAheadOf 135 = .ok (.iconst 1, 1) := dk_4 (dk_at dksX3_isAheadOf_5 15 rfl rfl)
theorem dX3_isAheadOf_136 : decode cX3_isAheadOf 136 = .ok (.goto 23, 3) := dk_167 0 23 (dk_at dksX3_isAheadOf_5 16 rfl rfl)
theorem dX3_isAheadOf_139 : decode cX3_isAheadOf 139 = .ok (.iconst 0, 1) := dk_3 (dk_at dksX3_isAheadOf_5 19 rfl rfl)
theorem dX3_isAheadOf_140 : decode cX3_isAheadOf 140 = .ok (.goto 19, 3) := dk_167 0 19 (dk_at dksX3_isAheadOf_5 20 rfl rfl)
theorem dX3_isAheadOf_143 : decode cX3_isAheadOf 143 = .ok (.aload_n 0, 1) := dk_42 (dk_at dksX3_isAheadOf_5 23 rfl rfl)
theorem dX3_isAheadOf_144 : decode cX3_isAheadOf 144 = .ok (.getfield 26, 3) := dk_180 0 26 (dk_at dksX3_isAheadOf_6 0 rfl rfl)
theorem dX3_isAheadOf_147 : decode cX3_isAheadOf 147 = .ok (.aload_n 1, 1) := dk_43 (dk_at dksX3_isAheadOf_6 3 rfl rfl)
theorem dX3_isAheadOf_148 : decode cX3_isAheadOf 148 = .ok (.getfield 114, 3) := dk_180 0 114 (dk_at dksX3_isAheadOf_6 4 rfl rfl)
theorem dX3_isAheadOf_151 : decode cX3_isAheadOf 151 = .ok (.if_icmp .ge 7, 3) := dk_162 0 7 (dk_at dksX3_isAheadOf_6 7 rfl rfl)
theorem dX3_isAheadOf_154 : decode cX3_isAheadOf 154 = .ok (.iconst 1, 1) := dk_4 (dk_at dksX3_isAheadOf_6 10 rfl rfl)
theorem dX3_isAheadOf_155 : decode cX3_isAheadOf 155 = .ok (.goto 4, 3) := dk_167 0 4 (dk_at dksX3_isAheadOf_6 11 rfl rfl)
theorem dX3_isAheadOf_158 : decode cX3_isAheadOf 158 = .ok (.iconst 0, 1) := dk_3 (dk_at dksX3_isAheadOf_6 14 rfl rfl)
theorem dX3_isAheadOf_159 : decode cX3_isAheadOf 159 = .ok (.ireturn, 1) := dk_172 (dk_at dksX3_isAheadOf_6 15 rfl rfl)
abbrev cX3_isAt : ByteArray := prog_3_method_9_code
def yX3_isAt : MethodName := ⟨RX3, "isAt", "(LMatchmakerRules$Firing;)Z"⟩
def dkwX3_isAt_1 : List UInt8 := [160, 0, 18, 42, 180, 0, 26, 43, 180, 0, 114, 160, 0, 7, 4, 167, 0, 4, 3, 172]
abbrev dktX3_isAt_1 : List UInt8 := dkwX3_isAt_1 ++ []
def dkwX3_isAt_0 : List UInt8 := [42, 180, 0, 29, 43, 180, 0, 113, 166, 0, 32, 42, 180, 0, 36, 180, 0, 99, 43, 180, 0, 115]
abbrev dktX3_isAt_0 : List UInt8 := dkwX3_isAt_0 ++ dktX3_isAt_1
theorem dksX3_isAt_0 : cX3_isAt.data.toList.drop 0 = dktX3_isAt_0 := by decide +kernel
theorem dksX3_isAt_1 : cX3_isAt.data.toList.drop 22 = dktX3_isAt_1 := dk_seg dksX3_isAt_0 22 rfl rfl
theorem dX3_isAt_0 : decode cX3_isAt 0 = .ok (.aload_n 0, 1) := dk_42 (dk_at dksX3_isAt_0 0 rfl rfl)
theorem dX3_isAt_1 : decode cX3_isAt 1 = .ok (.getfield 29, 3) := dk_180 0 29 (dk_at dksX3_isAt_0 1 rfl rfl)
theorem dX3_isAt_4 : decode cX3_isAt 4 = .ok (.aload_n 1, 1) := dk_43 (dk_at dksX3_isAt_0 4 rfl rfl)
theorem dX3_isAt_5 : decode cX3_isAt 5 = .ok (.getfield 113, 3) := dk_180 0 113 (dk_at dksX3_isAt_0 5 rfl rfl)
theorem dX3_isAt_8 : decode cX3_isAt 8 = .ok (.if_acmp .ne 32, 3) := dk_166 0 32 (dk_at dksX3_isAt_0 8 rfl rfl)
theorem dX3_isAt_11 : decode cX3_isAt 11 = .ok (.aload_n 0, 1) := dk_42 (dk_at dksX3_isAt_0 11 rfl rfl)
theorem dX3_isAt_12 : decode cX3_isAt 12 = .ok (.getfield 36, 3) := dk_180 0 36 (dk_at dksX3_isAt_0 12 rfl rfl)
theorem dX3_isAt_15 : decode cX3_isAt 15 = .ok (.getfield 99, 3) := dk_180 0 99 (dk_at dksX3_isAt_0 15 rfl rfl)
theorem dX3_isAt_18 : decode cX3_isAt 18 = .ok (.aload_n 1, 1) := dk_43 (dk_at dksX3_isAt_0 18 rfl rfl)
theorem dX3_isAt_19 : decode cX3_isAt 19 = .ok (.getfield 115, 3) := dk_180 0 115 (dk_at dksX3_isAt_0 19 rfl rfl)
theorem dX3_isAt_22 : decode cX3_isAt 22 = .ok (.if_icmp .ne 18, 3) := dk_160 0 18 (dk_at dksX3_isAt_1 0 rfl rfl)
theorem dX3_isAt_25 : decode cX3_isAt 25 = .ok (.aload_n 0, 1) := dk_42 (dk_at dksX3_isAt_1 3 rfl rfl)
theorem dX3_isAt_26 : decode cX3_isAt 26 = .ok (.getfield 26, 3) := dk_180 0 26 (dk_at dksX3_isAt_1 4 rfl rfl)
theorem dX3_isAt_29 : decode cX3_isAt 29 = .ok (.aload_n 1, 1) := dk_43 (dk_at dksX3_isAt_1 7 rfl rfl)
theorem dX3_isAt_30 : decode cX3_isAt 30 = .ok (.getfield 114, 3) := dk_180 0 114 (dk_at dksX3_isAt_1 8 rfl rfl)
theorem dX3_isAt_33 : decode cX3_isAt 33 = .ok (.if_icmp .ne 7, 3) := dk_160 0 7 (dk_at dksX3_isAt_1 11 rfl rfl)
theorem dX3_isAt_36 : decode cX3_isAt 36 = .ok (.iconst 1, 1) := dk_4 (dk_at dksX3_isAt_1 14 rfl rfl)
theorem dX3_isAt_37 : decode cX3_isAt 37 = .ok (.goto 4, 3) := dk_167 0 4 (dk_at dksX3_isAt_1 15 rfl rfl)
theorem dX3_isAt_40 : decode cX3_isAt 40 = .ok (.iconst 0, 1) := dk_3 (dk_at dksX3_isAt_1 18 rfl rfl)
theorem dX3_isAt_41 : decode cX3_isAt 41 = .ok (.ireturn, 1) := dk_172 (dk_at dksX3_isAt_1 19 rfl rfl)
theorem q99 : (Jvm.Cond.initialized "MatchmakerRules$Book$Walk") ∈ lw_all := lw_g (lw_at lw_m1 3 rfl) rfl
theorem q155 : (Jvm.Cond.instantiable "MatchmakerRules$Book$Walk" (8 : Nat)) ∈ lw_all := lw_g (lw_at lw_m1 59 rfl) rfl
theorem q157 : (Jvm.Cond.instanceMethod ({ cls := "MatchmakerRules$Book$Walk", name := "<init>", desc := "(LMatchmakerRules$Book;)V" } : Jvm.MethodName)) ∈ lw_all := lw_g (lw_at lw_m1 61 rfl) rfl
theorem q158 : (Jvm.Cond.code ({ cls := "MatchmakerRules$Book$Walk", name := "<init>", desc := "(LMatchmakerRules$Book;)V" } : Jvm.MethodName) prog_3_method_1_code (2 : Nat) (Option.none : Option Jvm.ClassFile.FieldType)) ∈ lw_all := lw_g (lw_at lw_m1 62 rfl) rfl
theorem q159 : (Jvm.Cond.methodLink "MatchmakerRules$Book$Walk" (9 : Nat) ({ cls := "java/lang/Object", name := "<init>", desc := "()V" } : Jvm.MethodName)) ∈ lw_all := lw_g (lw_at lw_m1 63 rfl) rfl
theorem q160 : (Jvm.Cond.fieldLink "MatchmakerRules$Book$Walk" (29 : Nat) "MatchmakerRules$Book$Walk" "rule" "LMatchmakerRules$Rule;") ∈ lw_all := lw_g (lw_at lw_m1 64 rfl) rfl
theorem q162 : (Jvm.Cond.fieldLink "MatchmakerRules$Book$Walk" (15 : Nat) "MatchmakerRules$Book$Walk" "persons" "[I") ∈ lw_all := lw_g (lw_at lw_m1 66 rfl) rfl
theorem q163 : (Jvm.Cond.fieldLink "MatchmakerRules$Book$Walk" (19 : Nat) "MatchmakerRules$Book$Walk" "tried" "[I") ∈ lw_all := lw_g (lw_at lw_m1 67 rfl) rfl
theorem q164 : (Jvm.Cond.fieldLink "MatchmakerRules$Book$Walk" (33 : Nat) "MatchmakerRules$Book$Walk" "place" "I") ∈ lw_all := lw_g (lw_at lw_m1 68 rfl) rfl
theorem q165 : (Jvm.Cond.fieldLink "MatchmakerRules$Book$Walk" (22 : Nat) "MatchmakerRules$Book$Walk" "other" "I") ∈ lw_all := lw_g (lw_at lw_m1 69 rfl) rfl
theorem q166 : (Jvm.Cond.fieldLink "MatchmakerRules$Book$Walk" (36 : Nat) "MatchmakerRules$Book$Walk" "first" "LMatchmakerRules$Fact;") ∈ lw_all := lw_g (lw_at lw_m1 70 rfl) rfl
theorem q168 : (Jvm.Cond.fieldLink "MatchmakerRules$Book$Walk" (26 : Nat) "MatchmakerRules$Book$Walk" "second" "I") ∈ lw_all := lw_g (lw_at lw_m1 72 rfl) rfl
theorem q170 : (Jvm.Cond.fieldLink "MatchmakerRules$Book$Walk" (3 : Nat) "MatchmakerRules$Book$Walk" "this$0" "LMatchmakerRules$Book;") ∈ lw_all := lw_g (lw_at lw_m1 74 rfl) rfl
theorem q171 : (Jvm.Cond.lays "MatchmakerRules$Book$Walk" "MatchmakerRules$Book$Walk" "rule" "LMatchmakerRules$Rule;") ∈ lw_all := lw_g (lw_at lw_m1 75 rfl) rfl
theorem q172 : (Jvm.Cond.soleField "MatchmakerRules$Book$Walk" "rule") ∈ lw_all := lw_g (lw_at lw_m1 76 rfl) rfl
theorem q173 : (Jvm.Cond.laysFinal "MatchmakerRules$Book$Walk" "MatchmakerRules$Book$Walk" "persons" "[I") ∈ lw_all := lw_g (lw_at lw_m1 77 rfl) rfl
theorem q174 : (Jvm.Cond.soleField "MatchmakerRules$Book$Walk" "persons") ∈ lw_all := lw_g (lw_at lw_m1 78 rfl) rfl
theorem q175 : (Jvm.Cond.laysFinal "MatchmakerRules$Book$Walk" "MatchmakerRules$Book$Walk" "tried" "[I") ∈ lw_all := lw_g (lw_at lw_m1 79 rfl) rfl
theorem q176 : (Jvm.Cond.soleField "MatchmakerRules$Book$Walk" "tried") ∈ lw_all := lw_g (lw_at lw_m1 80 rfl) rfl
theorem q177 : (Jvm.Cond.lays "MatchmakerRules$Book$Walk" "MatchmakerRules$Book$Walk" "place" "I") ∈ lw_all := lw_g (lw_at lw_m1 81 rfl) rfl
theorem q178 : (Jvm.Cond.soleField "MatchmakerRules$Book$Walk" "place") ∈ lw_all := lw_g (lw_at lw_m1 82 rfl) rfl
theorem q179 : (Jvm.Cond.lays "MatchmakerRules$Book$Walk" "MatchmakerRules$Book$Walk" "other" "I") ∈ lw_all := lw_g (lw_at lw_m1 83 rfl) rfl
theorem q180 : (Jvm.Cond.soleField "MatchmakerRules$Book$Walk" "other") ∈ lw_all := lw_g (lw_at lw_m1 84 rfl) rfl
theorem q181 : (Jvm.Cond.lays "MatchmakerRules$Book$Walk" "MatchmakerRules$Book$Walk" "first" "LMatchmakerRules$Fact;") ∈ lw_all := lw_g (lw_at lw_m1 85 rfl) rfl
theorem q182 : (Jvm.Cond.soleField "MatchmakerRules$Book$Walk" "first") ∈ lw_all := lw_g (lw_at lw_m1 86 rfl) rfl
theorem q183 : (Jvm.Cond.lays "MatchmakerRules$Book$Walk" "MatchmakerRules$Book$Walk" "second" "I") ∈ lw_all := lw_g (lw_at lw_m1 87 rfl) rfl
theorem q184 : (Jvm.Cond.soleField "MatchmakerRules$Book$Walk" "second") ∈ lw_all := lw_g (lw_at lw_m1 88 rfl) rfl
theorem q185 : (Jvm.Cond.laysFinal "MatchmakerRules$Book$Walk" "MatchmakerRules$Book$Walk" "this$0" "LMatchmakerRules$Book;") ∈ lw_all := lw_g (lw_at lw_m1 89 rfl) rfl
theorem q186 : (Jvm.Cond.soleField "MatchmakerRules$Book$Walk" "this$0") ∈ lw_all := lw_g (lw_at lw_m1 90 rfl) rfl
theorem q187 : (Jvm.Cond.superclass "MatchmakerRules$Book$Walk" "java/lang/Object") ∈ lw_all := lw_g (lw_at lw_m1 91 rfl) rfl
theorem q220 : (Jvm.Cond.fieldLinkNest "MatchmakerRules$Book$Walk" (124 : Nat) "MatchmakerRules$Book" "rules" "Ljava/util/ArrayList;" "MatchmakerRules") ∈ lw_tbl := lw_at lw_m1 124 rfl
theorem q223 : (Jvm.Cond.fieldLinkNest "MatchmakerRules$Book$Walk" (40 : Nat) "MatchmakerRules$Book" "facts" "Ljava/util/ArrayList;" "MatchmakerRules") ∈ lw_tbl := lw_at lw_m1 127 rfl
theorem q487 : (Jvm.Cond.instanceMethod ({ cls := "MatchmakerRules$Book$Walk", name := "begin", desc := "(LMatchmakerRules$Rule;)LMatchmakerRules$Book$Walk;" } : Jvm.MethodName)) ∈ lw_all := lw_g (lw_at lw_m2 151 rfl) rfl
theorem q488 : (Jvm.Cond.selects "MatchmakerRules$Book$Walk" ({ cls := "MatchmakerRules$Book$Walk", name := "begin", desc := "(LMatchmakerRules$Rule;)LMatchmakerRules$Book$Walk;" } : Jvm.MethodName) ({ cls := "MatchmakerRules$Book$Walk", name := "begin", desc := "(LMatchmakerRules$Rule;)LMatchmakerRules$Book$Walk;" } : Jvm.MethodName)) ∈ lw_all := lw_g (lw_at lw_m2 152 rfl) rfl
theorem q489 : (Jvm.Cond.code ({ cls := "MatchmakerRules$Book$Walk", name := "begin", desc := "(LMatchmakerRules$Rule;)LMatchmakerRules$Book$Walk;" } : Jvm.MethodName) prog_3_method_2_code (2 : Nat) (Option.some (Jvm.ClassFile.FieldType.object "MatchmakerRules$Book$Walk"))) ∈ lw_all := lw_g (lw_at lw_m2 153 rfl) rfl
theorem q491 : (Jvm.Cond.instanceMethod ({ cls := "MatchmakerRules$Book$Walk", name := "goesOn", desc := "()Z" } : Jvm.MethodName)) ∈ lw_all := lw_g (lw_at lw_m2 155 rfl) rfl
theorem q492 : (Jvm.Cond.selects "MatchmakerRules$Book$Walk" ({ cls := "MatchmakerRules$Book$Walk", name := "goesOn", desc := "()Z" } : Jvm.MethodName) ({ cls := "MatchmakerRules$Book$Walk", name := "goesOn", desc := "()Z" } : Jvm.MethodName)) ∈ lw_all := lw_g (lw_at lw_m2 156 rfl) rfl
theorem q493 : (Jvm.Cond.code ({ cls := "MatchmakerRules$Book$Walk", name := "goesOn", desc := "()Z" } : Jvm.MethodName) prog_3_method_6_code (2 : Nat) (Option.some Jvm.ClassFile.FieldType.boolean)) ∈ lw_all := lw_g (lw_at lw_m2 157 rfl) rfl
theorem q494 : (Jvm.Cond.methodLink "MatchmakerRules$Book$Walk" (46 : Nat) ({ cls := "java/util/ArrayList", name := "size", desc := "()I" } : Jvm.MethodName)) ∈ lw_all := lw_g (lw_at lw_m2 158 rfl) rfl
theorem q495 : (Jvm.Cond.methodLink "MatchmakerRules$Book$Walk" (52 : Nat) ({ cls := "java/util/ArrayList", name := "get", desc := "(I)Ljava/lang/Object;" } : Jvm.MethodName)) ∈ lw_all := lw_g (lw_at lw_m2 159 rfl) rfl
theorem q496 : (Jvm.Cond.classLink "MatchmakerRules$Book$Walk" (56 : Nat) "MatchmakerRules$Fact") ∈ lw_all := lw_g (lw_at lw_m2 160 rfl) rfl
theorem q497 : (Jvm.Cond.methodLink "MatchmakerRules$Book$Walk" (93 : Nat) ({ cls := "MatchmakerRules$Book$Walk", name := "isFirst", desc := "()Z" } : Jvm.MethodName)) ∈ lw_all := lw_g (lw_at lw_m2 161 rfl) rfl
theorem q498 : (Jvm.Cond.privateMethod ({ cls := "MatchmakerRules$Book$Walk", name := "isFirst", desc := "()Z" } : Jvm.MethodName)) ∈ lw_tbl := lw_at lw_m2 162 rfl
theorem q499 : (Jvm.Cond.instanceMethod ({ cls := "MatchmakerRules$Book$Walk", name := "isFirst", desc := "()Z" } : Jvm.MethodName)) ∈ lw_all := lw_g (lw_at lw_m2 163 rfl) rfl
theorem q500 : (Jvm.Cond.code ({ cls := "MatchmakerRules$Book$Walk", name := "isFirst", desc := "()Z" } : Jvm.MethodName) prog_3_method_5_code (1 : Nat) (Option.some Jvm.ClassFile.FieldType.boolean)) ∈ lw_all := lw_g (lw_at lw_m2 164 rfl) rfl
theorem q501 : (Jvm.Cond.methodLinkNest "MatchmakerRules$Book$Walk" (79 : Nat) ({ cls := "MatchmakerRules$Book", name := "free", desc := "([I)V" } : Jvm.MethodName) "MatchmakerRules") ∈ lw_tbl := lw_at lw_m2 165 rfl
theorem q504 : (Jvm.Cond.methodLink "MatchmakerRules$Book$Walk" (73 : Nat) ({ cls := "MatchmakerRules$Pattern", name := "fits", desc := "(LMatchmakerRules$Fact;[I)Z" } : Jvm.MethodName)) ∈ lw_all := lw_g (lw_at lw_m2 168 rfl) rfl
theorem q513 : (Jvm.Cond.methodLink "MatchmakerRules$Book$Walk" (89 : Nat) ({ cls := "MatchmakerRules$Book$Walk", name := "isFulfilled", desc := "()Z" } : Jvm.MethodName)) ∈ lw_all := lw_g (lw_at lw_m2 177 rfl) rfl
theorem q514 : (Jvm.Cond.privateMethod ({ cls := "MatchmakerRules$Book$Walk", name := "isFulfilled", desc := "()Z" } : Jvm.MethodName)) ∈ lw_tbl := lw_at lw_m2 178 rfl
theorem q515 : (Jvm.Cond.instanceMethod ({ cls := "MatchmakerRules$Book$Walk", name := "isFulfilled", desc := "()Z" } : Jvm.MethodName)) ∈ lw_all := lw_g (lw_at lw_m2 179 rfl) rfl
theorem q516 : (Jvm.Cond.code ({ cls := "MatchmakerRules$Book$Walk", name := "isFulfilled", desc := "()Z" } : Jvm.MethodName) prog_3_method_3_code (3 : Nat) (Option.some Jvm.ClassFile.FieldType.boolean)) ∈ lw_all := lw_g (lw_at lw_m2 180 rfl) rfl
theorem q517 : (Jvm.Cond.methodLink "MatchmakerRules$Book$Walk" (58 : Nat) ({ cls := "MatchmakerRules$Book$Walk", name := "isSecond", desc := "(LMatchmakerRules$Fact;)Z" } : Jvm.MethodName)) ∈ lw_all := lw_g (lw_at lw_m2 181 rfl) rfl
theorem q518 : (Jvm.Cond.privateMethod ({ cls := "MatchmakerRules$Book$Walk", name := "isSecond", desc := "(LMatchmakerRules$Fact;)Z" } : Jvm.MethodName)) ∈ lw_tbl := lw_at lw_m2 182 rfl
theorem q519 : (Jvm.Cond.instanceMethod ({ cls := "MatchmakerRules$Book$Walk", name := "isSecond", desc := "(LMatchmakerRules$Fact;)Z" } : Jvm.MethodName)) ∈ lw_all := lw_g (lw_at lw_m2 183 rfl) rfl
theorem q520 : (Jvm.Cond.code ({ cls := "MatchmakerRules$Book$Walk", name := "isSecond", desc := "(LMatchmakerRules$Fact;)Z" } : Jvm.MethodName) prog_3_method_4_code (2 : Nat) (Option.some Jvm.ClassFile.FieldType.boolean)) ∈ lw_all := lw_g (lw_at lw_m2 184 rfl) rfl
theorem q521 : (Jvm.Cond.methodLink "MatchmakerRules$Book$Walk" (62 : Nat) ({ cls := "java/lang/System", name := "arraycopy", desc := "(Ljava/lang/Object;ILjava/lang/Object;II)V" } : Jvm.MethodName)) ∈ lw_all := lw_g (lw_at lw_m2 185 rfl) rfl
theorem q524 : (Jvm.Cond.methodLink "MatchmakerRules$Book$Walk" (96 : Nat) ({ cls := "MatchmakerRules$Rule", name := "wantsTwo", desc := "()Z" } : Jvm.MethodName)) ∈ lw_all := lw_g (lw_at lw_m2 188 rfl) rfl
theorem q529 : (Jvm.Cond.instanceMethod ({ cls := "MatchmakerRules$Book$Walk", name := "newest", desc := "()I" } : Jvm.MethodName)) ∈ lw_all := lw_g (lw_at lw_m2 193 rfl) rfl
theorem q530 : (Jvm.Cond.selects "MatchmakerRules$Book$Walk" ({ cls := "MatchmakerRules$Book$Walk", name := "newest", desc := "()I" } : Jvm.MethodName) ({ cls := "MatchmakerRules$Book$Walk", name := "newest", desc := "()I" } : Jvm.MethodName)) ∈ lw_all := lw_g (lw_at lw_m2 194 rfl) rfl
theorem q531 : (Jvm.Cond.code ({ cls := "MatchmakerRules$Book$Walk", name := "newest", desc := "()I" } : Jvm.MethodName) prog_3_method_7_code (1 : Nat) (Option.some Jvm.ClassFile.FieldType.int)) ∈ lw_all := lw_g (lw_at lw_m2 195 rfl) rfl
theorem q532 : (Jvm.Cond.methodLink "MatchmakerRules$Book$Walk" (102 : Nat) ({ cls := "java/lang/Math", name := "max", desc := "(II)I" } : Jvm.MethodName)) ∈ lw_all := lw_g (lw_at lw_m2 196 rfl) rfl
theorem q536 : (Jvm.Cond.instanceMethod ({ cls := "MatchmakerRules$Book$Walk", name := "isDue", desc := "()Z" } : Jvm.MethodName)) ∈ lw_all := lw_g (lw_at lw_m2 200 rfl) rfl
theorem q537 : (Jvm.Cond.selects "MatchmakerRules$Book$Walk" ({ cls := "MatchmakerRules$Book$Walk", name := "isDue", desc := "()Z" } : Jvm.MethodName) ({ cls := "MatchmakerRules$Book$Walk", name := "isDue", desc := "()Z" } : Jvm.MethodName)) ∈ lw_all := lw_g (lw_at lw_m2 201 rfl) rfl
theorem q538 : (Jvm.Cond.code ({ cls := "MatchmakerRules$Book$Walk", name := "isDue", desc := "()Z" } : Jvm.MethodName) prog_3_method_8_code (3 : Nat) (Option.some Jvm.ClassFile.FieldType.boolean)) ∈ lw_all := lw_g (lw_at lw_m2 202 rfl) rfl
theorem q539 : (Jvm.Cond.classLink "MatchmakerRules$Book$Walk" (111 : Nat) "MatchmakerRules$Firing") ∈ lw_all := lw_g (lw_at lw_m2 203 rfl) rfl
theorem q583 : (Jvm.Cond.selects "MatchmakerRules$Book$Walk" ({ cls := "java/lang/Object", name := "equals", desc := "(Ljava/lang/Object;)Z" } : Jvm.MethodName) ({ cls := "java/lang/Object", name := "equals", desc := "(Ljava/lang/Object;)Z" } : Jvm.MethodName)) ∈ lw_all := lw_g (lw_at lw_m3 7 rfl) rfl
theorem q847 : (Jvm.Cond.fieldLinkNest "MatchmakerRules$Book$Walk" (83 : Nat) "MatchmakerRules$Rule" "first" "LMatchmakerRules$Pattern;" "MatchmakerRules") ∈ lw_tbl := lw_at lw_m4 31 rfl
theorem q850 : (Jvm.Cond.fieldLinkNest "MatchmakerRules$Book$Walk" (68 : Nat) "MatchmakerRules$Rule" "second" "LMatchmakerRules$Pattern;" "MatchmakerRules") ∈ lw_tbl := lw_at lw_m4 34 rfl
theorem q853 : (Jvm.Cond.fieldLinkNest "MatchmakerRules$Book$Walk" (85 : Nat) "MatchmakerRules$Rule" "isWish" "Z" "MatchmakerRules") ∈ lw_tbl := lw_at lw_m4 37 rfl
theorem q857 : (Jvm.Cond.fieldLinkNest "MatchmakerRules$Book$Walk" (117 : Nat) "MatchmakerRules$Rule" "weight" "I" "MatchmakerRules") ∈ lw_tbl := lw_at lw_m4 41 rfl
theorem q941 : (Jvm.Cond.selects "MatchmakerRules$Book$Walk" ({ cls := "java/lang/Object", name := "getClass", desc := "()Ljava/lang/Class;" } : Jvm.MethodName) ({ cls := "java/lang/Object", name := "getClass", desc := "()Ljava/lang/Class;" } : Jvm.MethodName)) ∈ lw_all := lw_g (lw_at lw_m4 125 rfl) rfl
theorem q989 : (Jvm.Cond.fieldLinkNest "MatchmakerRules$Book$Walk" (99 : Nat) "MatchmakerRules$Fact" "number" "I" "MatchmakerRules") ∈ lw_tbl := lw_at lw_m4 173 rfl
theorem q1015 : (Jvm.Cond.fieldLinkNest "MatchmakerRules$Book$Walk" (108 : Nat) "MatchmakerRules$Fact" "fired" "Ljava/util/ArrayList;" "MatchmakerRules") ∈ lw_tbl := lw_at lw_m4 199 rfl
theorem q1186 : (Jvm.Cond.fieldLinkNest "MatchmakerRules$Book$Walk" (113 : Nat) "MatchmakerRules$Firing" "rule" "LMatchmakerRules$Rule;" "MatchmakerRules") ∈ lw_tbl := lw_at lw_m5 130 rfl
theorem q1189 : (Jvm.Cond.fieldLinkNest "MatchmakerRules$Book$Walk" (115 : Nat) "MatchmakerRules$Firing" "first" "I" "MatchmakerRules") ∈ lw_tbl := lw_at lw_m5 133 rfl
theorem q1192 : (Jvm.Cond.fieldLinkNest "MatchmakerRules$Book$Walk" (114 : Nat) "MatchmakerRules$Firing" "second" "I" "MatchmakerRules") ∈ lw_tbl := lw_at lw_m5 136 rfl
theorem q1206 : (Jvm.Cond.instanceMethod ({ cls := "MatchmakerRules$Book$Walk", name := "isAheadOf", desc := "(LMatchmakerRules$Firing;)Z" } : Jvm.MethodName)) ∈ lw_all := lw_g (lw_at lw_m5 150 rfl) rfl
theorem q1207 : (Jvm.Cond.selects "MatchmakerRules$Book$Walk" ({ cls := "MatchmakerRules$Book$Walk", name := "isAheadOf", desc := "(LMatchmakerRules$Firing;)Z" } : Jvm.MethodName) ({ cls := "MatchmakerRules$Book$Walk", name := "isAheadOf", desc := "(LMatchmakerRules$Firing;)Z" } : Jvm.MethodName)) ∈ lw_all := lw_g (lw_at lw_m5 151 rfl) rfl
theorem q1208 : (Jvm.Cond.code ({ cls := "MatchmakerRules$Book$Walk", name := "isAheadOf", desc := "(LMatchmakerRules$Firing;)Z" } : Jvm.MethodName) prog_3_method_10_code (4 : Nat) (Option.some Jvm.ClassFile.FieldType.boolean)) ∈ lw_all := lw_g (lw_at lw_m5 152 rfl) rfl
theorem q1209 : (Jvm.Cond.methodLink "MatchmakerRules$Book$Walk" (120 : Nat) ({ cls := "MatchmakerRules$Book$Walk", name := "newest", desc := "()I" } : Jvm.MethodName)) ∈ lw_all := lw_g (lw_at lw_m5 153 rfl) rfl
theorem q1210 : (Jvm.Cond.methodLink "MatchmakerRules$Book$Walk" (123 : Nat) ({ cls := "MatchmakerRules$Firing", name := "newest", desc := "()I" } : Jvm.MethodName)) ∈ lw_all := lw_g (lw_at lw_m5 154 rfl) rfl
theorem q1215 : (Jvm.Cond.methodLink "MatchmakerRules$Book$Walk" (127 : Nat) ({ cls := "java/util/ArrayList", name := "indexOf", desc := "(Ljava/lang/Object;)I" } : Jvm.MethodName)) ∈ lw_all := lw_g (lw_at lw_m5 159 rfl) rfl
theorem q1217 : (Jvm.Cond.instanceMethod ({ cls := "MatchmakerRules$Book$Walk", name := "isAt", desc := "(LMatchmakerRules$Firing;)Z" } : Jvm.MethodName)) ∈ lw_all := lw_g (lw_at lw_m5 161 rfl) rfl
theorem q1218 : (Jvm.Cond.selects "MatchmakerRules$Book$Walk" ({ cls := "MatchmakerRules$Book$Walk", name := "isAt", desc := "(LMatchmakerRules$Firing;)Z" } : Jvm.MethodName) ({ cls := "MatchmakerRules$Book$Walk", name := "isAt", desc := "(LMatchmakerRules$Firing;)Z" } : Jvm.MethodName)) ∈ lw_all := lw_g (lw_at lw_m5 162 rfl) rfl
theorem q1219 : (Jvm.Cond.code ({ cls := "MatchmakerRules$Book$Walk", name := "isAt", desc := "(LMatchmakerRules$Firing;)Z" } : Jvm.MethodName) prog_3_method_9_code (2 : Nat) (Option.some Jvm.ClassFile.FieldType.boolean)) ∈ lw_all := lw_g (lw_at lw_m5 163 rfl) rfl
theorem q2529 : (Jvm.Cond.castable "MatchmakerRules$Book$Walk" "java/lang/Object") ∈ lw_tbl := lw_at lw_m11 33 rfl
theorem in_X3 : ∀ w ∈ wsX30, w ∈ lw_all := lw_in wsX30 [171, 173, 175, 177, 179, 181, 183, 185] (by decide +kernel) (by decide +kernel)
