/-! MatchmakerRulesLaw -/
set_option maxRecDepth 100000
def RX0 : String := "MatchmakerRulesLaw"
abbrev cX0_rule : ByteArray := method_3_code
def yX0_rule : MethodName := ⟨RX0, "rule", "(LMatchmakerRules;[J)I"⟩
def dkwX0_rule_0 : List UInt8 := [43, 3, 42, 182, 0, 7, 133, 80, 167, 0, 9, 77, 4, 172, 77, 5, 172, 3, 172]
abbrev dktX0_rule_0 : List UInt8 := dkwX0_rule_0 ++ []
theorem dksX0_rule_0 : cX0_rule.data.toList.drop 0 = dktX0_rule_0 := by decide +kernel
theorem dX0_rule_0 : decode cX0_rule 0 = .ok (.aload_n 1, 1) := dk_43 (dk_at dksX0_rule_0 0 rfl rfl)
theorem dX0_rule_1 : decode cX0_rule 1 = .ok (.iconst 0, 1) := dk_3 (dk_at dksX0_rule_0 1 rfl rfl)
theorem dX0_rule_2 : decode cX0_rule 2 = .ok (.aload_n 0, 1) := dk_42 (dk_at dksX0_rule_0 2 rfl rfl)
theorem dX0_rule_3 : decode cX0_rule 3 = .ok (.invokevirtual 7, 3) := dk_182 0 7 (dk_at dksX0_rule_0 3 rfl rfl)
theorem dX0_rule_6 : decode cX0_rule 6 = .ok (.i2l, 1) := dk_133 (dk_at dksX0_rule_0 6 rfl rfl)
theorem dX0_rule_7 : decode cX0_rule 7 = .ok (.lastore, 1) := dk_80 (dk_at dksX0_rule_0 7 rfl rfl)
theorem dX0_rule_8 : decode cX0_rule 8 = .ok (.goto 9, 3) := dk_167 0 9 (dk_at dksX0_rule_0 8 rfl rfl)
theorem dX0_rule_11 : decode cX0_rule 11 = .ok (.astore_n 2, 1) := dk_77 (dk_at dksX0_rule_0 11 rfl rfl)
theorem dX0_rule_12 : decode cX0_rule 12 = .ok (.iconst 1, 1) := dk_4 (dk_at dksX0_rule_0 12 rfl rfl)
theorem dX0_rule_13 : decode cX0_rule 13 = .ok (.ireturn, 1) := dk_172 (dk_at dksX0_rule_0 13 rfl rfl)
theorem dX0_rule_14 : decode cX0_rule 14 = .ok (.astore_n 2, 1) := dk_77 (dk_at dksX0_rule_0 14 rfl rfl)
theorem dX0_rule_15 : decode cX0_rule 15 = .ok (.iconst 2, 1) := dk_5 (dk_at dksX0_rule_0 15 rfl rfl)
theorem dX0_rule_16 : decode cX0_rule 16 = .ok (.ireturn, 1) := dk_172 (dk_at dksX0_rule_0 16 rfl rfl)
theorem dX0_rule_17 : decode cX0_rule 17 = .ok (.iconst 0, 1) := dk_3 (dk_at dksX0_rule_0 17 rfl rfl)
theorem dX0_rule_18 : decode cX0_rule 18 = .ok (.ireturn, 1) := dk_172 (dk_at dksX0_rule_0 18 rfl rfl)
abbrev cX0_drop : ByteArray := method_4_code
def yX0_drop : MethodName := ⟨RX0, "drop", "(LMatchmakerRules;I[J)I"⟩
def dkwX0_drop_0 : List UInt8 := [44, 3, 42, 27, 182, 0, 17, 133, 80, 167, 0, 6, 78, 4, 172, 3, 172]
abbrev dktX0_drop_0 : List UInt8 := dkwX0_drop_0 ++ []
theorem dksX0_drop_0 : cX0_drop.data.toList.drop 0 = dktX0_drop_0 := by decide +kernel
theorem dX0_drop_0 : decode cX0_drop 0 = .ok (.aload_n 2, 1) := dk_44 (dk_at dksX0_drop_0 0 rfl rfl)
theorem dX0_drop_1 : decode cX0_drop 1 = .ok (.iconst 0, 1) := dk_3 (dk_at dksX0_drop_0 1 rfl rfl)
theorem dX0_drop_2 : decode cX0_drop 2 = .ok (.aload_n 0, 1) := dk_42 (dk_at dksX0_drop_0 2 rfl rfl)
theorem dX0_drop_3 : decode cX0_drop 3 = .ok (.iload_n 1, 1) := dk_27 (dk_at dksX0_drop_0 3 rfl rfl)
theorem dX0_drop_4 : decode cX0_drop 4 = .ok (.invokevirtual 17, 3) := dk_182 0 17 (dk_at dksX0_drop_0 4 rfl rfl)
theorem dX0_drop_7 : decode cX0_drop 7 = .ok (.i2l, 1) := dk_133 (dk_at dksX0_drop_0 7 rfl rfl)
theorem dX0_drop_8 : decode cX0_drop 8 = .ok (.lastore, 1) := dk_80 (dk_at dksX0_drop_0 8 rfl rfl)
theorem dX0_drop_9 : decode cX0_drop 9 = .ok (.goto 6, 3) := dk_167 0 6 (dk_at dksX0_drop_0 9 rfl rfl)
theorem dX0_drop_12 : decode cX0_drop 12 = .ok (.astore_n 3, 1) := dk_78 (dk_at dksX0_drop_0 12 rfl rfl)
theorem dX0_drop_13 : decode cX0_drop 13 = .ok (.iconst 1, 1) := dk_4 (dk_at dksX0_drop_0 13 rfl rfl)
theorem dX0_drop_14 : decode cX0_drop 14 = .ok (.ireturn, 1) := dk_172 (dk_at dksX0_drop_0 14 rfl rfl)
theorem dX0_drop_15 : decode cX0_drop 15 = .ok (.iconst 0, 1) := dk_3 (dk_at dksX0_drop_0 15 rfl rfl)
theorem dX0_drop_16 : decode cX0_drop 16 = .ok (.ireturn, 1) := dk_172 (dk_at dksX0_drop_0 16 rfl rfl)
abbrev cX0_tell : ByteArray := method_5_code
def yX0_tell : MethodName := ⟨RX0, "tell", "(LMatchmakerRules;CIII[J)I"⟩
def dkwX0_tell_1 : List UInt8 := [172, 3, 172]
abbrev dktX0_tell_1 : List UInt8 := dkwX0_tell_1 ++ []
def dkwX0_tell_0 : List UInt8 := [25, 5, 3, 42, 27, 28, 29, 21, 4, 182, 0, 21, 133, 80, 167, 0, 11, 58, 6, 4, 172, 58, 6, 5]
abbrev dktX0_tell_0 : List UInt8 := dkwX0_tell_0 ++ dktX0_tell_1
theorem dksX0_tell_0 : cX0_tell.data.toList.drop 0 = dktX0_tell_0 := by decide +kernel
theorem dksX0_tell_1 : cX0_tell.data.toList.drop 24 = dktX0_tell_1 := dk_seg dksX0_tell_0 24 rfl rfl
theorem dX0_tell_0 : decode cX0_tell 0 = .ok (.aload 5, 2) := dk_25 5 (dk_at dksX0_tell_0 0 rfl rfl)
theorem dX0_tell_2 : decode cX0_tell 2 = .ok (.iconst 0, 1) := dk_3 (dk_at dksX0_tell_0 2 rfl rfl)
theorem dX0_tell_3 : decode cX0_tell 3 = .ok (.aload_n 0, 1) := dk_42 (dk_at dksX0_tell_0 3 rfl rfl)
theorem dX0_tell_4 : decode cX0_tell 4 = .ok (.iload_n 1, 1) := dk_27 (dk_at dksX0_tell_0 4 rfl rfl)
theorem dX0_tell_5 : decode cX0_tell 5 = .ok (.iload_n 2, 1) := dk_28 (dk_at dksX0_tell_0 5 rfl rfl)
theorem dX0_tell_6 : decode cX0_tell 6 = .ok (.iload_n 3, 1) := dk_29 (dk_at dksX0_tell_0 6 rfl rfl)
theorem dX0_tell_7 : decode cX0_tell 7 = .ok (.iload 4, 2) := dk_21 4 (dk_at dksX0_tell_0 7 rfl rfl)
theorem dX0_tell_9 : decode cX0_tell 9 = .ok (.invokevirtual 21, 3) := dk_182 0 21 (dk_at dksX0_tell_0 9 rfl rfl)
theorem dX0_tell_12 : decode cX0_tell 12 = .ok (.i2l, 1) := dk_133 (dk_at dksX0_tell_0 12 rfl rfl)
theorem dX0_tell_13 : decode cX0_tell 13 = .ok (.lastore, 1) := dk_80 (dk_at dksX0_tell_0 13 rfl rfl)
theorem dX0_tell_14 : decode cX0_tell 14 = .ok (.goto 11, 3) := dk_167 0 11 (dk_at dksX0_tell_0 14 rfl rfl)
theorem dX0_tell_17 : decode cX0_tell 17 = .ok (.astore 6, 2) := dk_58 6 (dk_at dksX0_tell_0 17 rfl rfl)
theorem dX0_tell_19 : decode cX0_tell 19 = .ok (.iconst 1, 1) := dk_4 (dk_at dksX0_tell_0 19 rfl rfl)
theorem dX0_tell_20 : decode cX0_tell 20 = .ok (.ireturn, 1) := dk_172 (dk_at dksX0_tell_0 20 rfl rfl)
theorem dX0_tell_21 : decode cX0_tell 21 = .ok (.astore 6, 2) := dk_58 6 (dk_at dksX0_tell_0 21 rfl rfl)
theorem dX0_tell_23 : decode cX0_tell 23 = .ok (.iconst 2, 1) := dk_5 (dk_at dksX0_tell_0 23 rfl rfl)
theorem dX0_tell_24 : decode cX0_tell 24 = .ok (.ireturn, 1) := dk_172 (dk_at dksX0_tell_1 0 rfl rfl)
theorem dX0_tell_25 : decode cX0_tell 25 = .ok (.iconst 0, 1) := dk_3 (dk_at dksX0_tell_1 1 rfl rfl)
theorem dX0_tell_26 : decode cX0_tell 26 = .ok (.ireturn, 1) := dk_172 (dk_at dksX0_tell_1 2 rfl rfl)
abbrev cX0_untell : ByteArray := method_6_code
def yX0_untell : MethodName := ⟨RX0, "untell", "(LMatchmakerRules;I[J)I"⟩
def dkwX0_untell_0 : List UInt8 := [44, 3, 42, 27, 182, 0, 25, 133, 80, 167, 0, 6, 78, 4, 172, 3, 172]
abbrev dktX0_untell_0 : List UInt8 := dkwX0_untell_0 ++ []
theorem dksX0_untell_0 : cX0_untell.data.toList.drop 0 = dktX0_untell_0 := by decide +kernel
theorem dX0_untell_0 : decode cX0_untell 0 = .ok (.aload_n 2, 1) := dk_44 (dk_at dksX0_untell_0 0 rfl rfl)
theorem dX0_untell_1 : decode cX0_untell 1 = .ok (.iconst 0, 1) := dk_3 (dk_at dksX0_untell_0 1 rfl rfl)
theorem dX0_untell_2 : decode cX0_untell 2 = .ok (.aload_n 0, 1) := dk_42 (dk_at dksX0_untell_0 2 rfl rfl)
theorem dX0_untell_3 : decode cX0_untell 3 = .ok (.iload_n 1, 1) := dk_27 (dk_at dksX0_untell_0 3 rfl rfl)
theorem dX0_untell_4 : decode cX0_untell 4 = .ok (.invokevirtual 25, 3) := dk_182 0 25 (dk_at dksX0_untell_0 4 rfl rfl)
theorem dX0_untell_7 : decode cX0_untell 7 = .ok (.i2l, 1) := dk_133 (dk_at dksX0_untell_0 7 rfl rfl)
theorem dX0_untell_8 : decode cX0_untell 8 = .ok (.lastore, 1) := dk_80 (dk_at dksX0_untell_0 8 rfl rfl)
theorem dX0_untell_9 : decode cX0_untell 9 = .ok (.goto 6, 3) := dk_167 0 6 (dk_at dksX0_untell_0 9 rfl rfl)
theorem dX0_untell_12 : decode cX0_untell 12 = .ok (.astore_n 3, 1) := dk_78 (dk_at dksX0_untell_0 12 rfl rfl)
theorem dX0_untell_13 : decode cX0_untell 13 = .ok (.iconst 1, 1) := dk_4 (dk_at dksX0_untell_0 13 rfl rfl)
theorem dX0_untell_14 : decode cX0_untell 14 = .ok (.ireturn, 1) := dk_172 (dk_at dksX0_untell_0 14 rfl rfl)
theorem dX0_untell_15 : decode cX0_untell 15 = .ok (.iconst 0, 1) := dk_3 (dk_at dksX0_untell_0 15 rfl rfl)
theorem dX0_untell_16 : decode cX0_untell 16 = .ok (.ireturn, 1) := dk_172 (dk_at dksX0_untell_0 16 rfl rfl)
abbrev cX0_find : ByteArray := method_7_code
def yX0_find : MethodName := ⟨RX0, "find", "(LMatchmakerRules;CII[J)I"⟩
def dkwX0_find_0 : List UInt8 := [25, 4, 3, 42, 27, 28, 29, 182, 0, 28, 133, 80, 167, 0, 7, 58, 5, 4, 172, 3, 172]
abbrev dktX0_find_0 : List UInt8 := dkwX0_find_0 ++ []
theorem dksX0_find_0 : cX0_find.data.toList.drop 0 = dktX0_find_0 := by decide +kernel
theorem dX0_find_0 : decode cX0_find 0 = .ok (.aload 4, 2) := dk_25 4 (dk_at dksX0_find_0 0 rfl rfl)
theorem dX0_find_2 : decode cX0_find 2 = .ok (.iconst 0, 1) := dk_3 (dk_at dksX0_find_0 2 rfl rfl)
theorem dX0_find_3 : decode cX0_find 3 = .ok (.aload_n 0, 1) := dk_42 (dk_at dksX0_find_0 3 rfl rfl)
theorem dX0_find_4 : decode cX0_find 4 = .ok (.iload_n 1, 1) := dk_27 (dk_at dksX0_find_0 4 rfl rfl)
theorem dX0_find_5 : decode cX0_find 5 = .ok (.iload_n 2, 1) := dk_28 (dk_at dksX0_find_0 5 rfl rfl)
theorem dX0_find_6 : decode cX0_find 6 = .ok (.iload_n 3, 1) := dk_29 (dk_at dksX0_find_0 6 rfl rfl)
theorem dX0_find_7 : decode cX0_find 7 = .ok (.invokevirtual 28, 3) := dk_182 0 28 (dk_at dksX0_find_0 7 rfl rfl)
theorem dX0_find_10 : decode cX0_find 10 = .ok (.i2l, 1) := dk_133 (dk_at dksX0_find_0 10 rfl rfl)
theorem dX0_find_11 : decode cX0_find 11 = .ok (.lastore, 1) := dk_80 (dk_at dksX0_find_0 11 rfl rfl)
theorem dX0_find_12 : decode cX0_find 12 = .ok (.goto 7, 3) := dk_167 0 7 (dk_at dksX0_find_0 12 rfl rfl)
theorem dX0_find_15 : decode cX0_find 15 = .ok (.astore 5, 2) := dk_58 5 (dk_at dksX0_find_0 15 rfl rfl)
theorem dX0_find_17 : decode cX0_find 17 = .ok (.iconst 1, 1) := dk_4 (dk_at dksX0_find_0 17 rfl rfl)
theorem dX0_find_18 : decode cX0_find 18 = .ok (.ireturn, 1) := dk_172 (dk_at dksX0_find_0 18 rfl rfl)
theorem dX0_find_19 : decode cX0_find 19 = .ok (.iconst 0, 1) := dk_3 (dk_at dksX0_find_0 19 rfl rfl)
theorem dX0_find_20 : decode cX0_find 20 = .ok (.ireturn, 1) := dk_172 (dk_at dksX0_find_0 20 rfl rfl)
abbrev cX0_factAt : ByteArray := method_8_code
def yX0_factAt : MethodName := ⟨RX0, "factAt", "(LMatchmakerRules;I[J)I"⟩
def dkwX0_factAt_0 : List UInt8 := [44, 3, 42, 27, 182, 0, 34, 133, 80, 167, 0, 6, 78, 4, 172, 3, 172]
abbrev dktX0_factAt_0 : List UInt8 := dkwX0_factAt_0 ++ []
theorem dksX0_factAt_0 : cX0_factAt.data.toList.drop 0 = dktX0_factAt_0 := by decide +kernel
theorem dX0_factAt_0 : decode cX0_factAt 0 = .ok (.aload_n 2, 1) := dk_44 (dk_at dksX0_factAt_0 0 rfl rfl)
theorem dX0_factAt_1 : decode cX0_factAt 1 = .ok (.iconst 0, 1) := dk_3 (dk_at dksX0_factAt_0 1 rfl rfl)
theorem dX0_factAt_2 : decode cX0_factAt 2 = .ok (.aload_n 0, 1) := dk_42 (dk_at dksX0_factAt_0 2 rfl rfl)
theorem dX0_factAt_3 : decode cX0_factAt 3 = .ok (.iload_n 1, 1) := dk_27 (dk_at dksX0_factAt_0 3 rfl rfl)
theorem dX0_factAt_4 : decode cX0_factAt 4 = .ok (.invokevirtual 34, 3) := dk_182 0 34 (dk_at dksX0_factAt_0 4 rfl rfl)
theorem dX0_factAt_7 : decode cX0_factAt 7 = .ok (.i2l, 1) := dk_133 (dk_at dksX0_factAt_0 7 rfl rfl)
theorem dX0_factAt_8 : decode cX0_factAt 8 = .ok (.lastore, 1) := dk_80 (dk_at dksX0_factAt_0 8 rfl rfl)
theorem dX0_factAt_9 : decode cX0_factAt 9 = .ok (.goto 6, 3) := dk_167 0 6 (dk_at dksX0_factAt_0 9 rfl rfl)
theorem dX0_factAt_12 : decode cX0_factAt 12 = .ok (.astore_n 3, 1) := dk_78 (dk_at dksX0_factAt_0 12 rfl rfl)
theorem dX0_factAt_13 : decode cX0_factAt 13 = .ok (.iconst 1, 1) := dk_4 (dk_at dksX0_factAt_0 13 rfl rfl)
theorem dX0_factAt_14 : decode cX0_factAt 14 = .ok (.ireturn, 1) := dk_172 (dk_at dksX0_factAt_0 14 rfl rfl)
theorem dX0_factAt_15 : decode cX0_factAt 15 = .ok (.iconst 0, 1) := dk_3 (dk_at dksX0_factAt_0 15 rfl rfl)
theorem dX0_factAt_16 : decode cX0_factAt 16 = .ok (.ireturn, 1) := dk_172 (dk_at dksX0_factAt_0 16 rfl rfl)
abbrev cX0_factOf : ByteArray := method_9_code
def yX0_factOf : MethodName := ⟨RX0, "factOf", "(LMatchmakerRules;II[J)I"⟩
def dkwX0_factOf_0 : List UInt8 := [45, 3, 42, 27, 28, 182, 0, 37, 133, 80, 167, 0, 11, 58, 4, 4, 172, 58, 4, 5, 172, 3, 172]
abbrev dktX0_factOf_0 : List UInt8 := dkwX0_factOf_0 ++ []
theorem dksX0_factOf_0 : cX0_factOf.data.toList.drop 0 = dktX0_factOf_0 := by decide +kernel
theorem dX0_factOf_0 : decode cX0_factOf 0 = .ok (.aload_n 3, 1) := dk_45 (dk_at dksX0_factOf_0 0 rfl rfl)
theorem dX0_factOf_1 : decode cX0_factOf 1 = .ok (.iconst 0, 1) := dk_3 (dk_at dksX0_factOf_0 1 rfl rfl)
theorem dX0_factOf_2 : decode cX0_factOf 2 = .ok (.aload_n 0, 1) := dk_42 (dk_at dksX0_factOf_0 2 rfl rfl)
theorem dX0_factOf_3 : decode cX0_factOf 3 = .ok (.iload_n 1, 1) := dk_27 (dk_at dksX0_factOf_0 3 rfl rfl)
theorem dX0_factOf_4 : decode cX0_factOf 4 = .ok (.iload_n 2, 1) := dk_28 (dk_at dksX0_factOf_0 4 rfl rfl)
theorem dX0_factOf_5 : decode cX0_factOf 5 = .ok (.invokevirtual 37, 3) := dk_182 0 37 (dk_at dksX0_factOf_0 5 rfl rfl)
theorem dX0_factOf_8 : decode cX0_factOf 8 = .ok (.i2l, 1) := dk_133 (dk_at dksX0_factOf_0 8 rfl rfl)
theorem dX0_factOf_9 : decode cX0_factOf 9 = .ok (.lastore, 1) := dk_80 (dk_at dksX0_factOf_0 9 rfl rfl)
theorem dX0_factOf_10 : decode cX0_factOf 10 = .ok (.goto 11, 3) := dk_167 0 11 (dk_at dksX0_factOf_0 10 rfl rfl)
theorem dX0_factOf_13 : decode cX0_factOf 13 = .ok (.astore 4, 2) := dk_58 4 (dk_at dksX0_factOf_0 13 rfl rfl)
theorem dX0_factOf_15 : decode cX0_factOf 15 = .ok (.iconst 1, 1) := dk_4 (dk_at dksX0_factOf_0 15 rfl rfl)
theorem dX0_factOf_16 : decode cX0_factOf 16 = .ok (.ireturn, 1) := dk_172 (dk_at dksX0_factOf_0 16 rfl rfl)
theorem dX0_factOf_17 : decode cX0_factOf 17 = .ok (.astore 4, 2) := dk_58 4 (dk_at dksX0_factOf_0 17 rfl rfl)
theorem dX0_factOf_19 : decode cX0_factOf 19 = .ok (.iconst 2, 1) := dk_5 (dk_at dksX0_factOf_0 19 rfl rfl)
theorem dX0_factOf_20 : decode cX0_factOf 20 = .ok (.ireturn, 1) := dk_172 (dk_at dksX0_factOf_0 20 rfl rfl)
theorem dX0_factOf_21 : decode cX0_factOf 21 = .ok (.iconst 0, 1) := dk_3 (dk_at dksX0_factOf_0 21 rfl rfl)
theorem dX0_factOf_22 : decode cX0_factOf 22 = .ok (.ireturn, 1) := dk_172 (dk_at dksX0_factOf_0 22 rfl rfl)
abbrev cX0_trust : ByteArray := method_10_code
def yX0_trust : MethodName := ⟨RX0, "trust", "(LMatchmakerRules;I[D)I"⟩
def dkwX0_trust_0 : List UInt8 := [44, 3, 42, 27, 182, 0, 41, 141, 82, 167, 0, 6, 78, 4, 172, 3, 172]
abbrev dktX0_trust_0 : List UInt8 := dkwX0_trust_0 ++ []
theorem dksX0_trust_0 : cX0_trust.data.toList.drop 0 = dktX0_trust_0 := by decide +kernel
theorem dX0_trust_0 : decode cX0_trust 0 = .ok (.aload_n 2, 1) := dk_44 (dk_at dksX0_trust_0 0 rfl rfl)
theorem dX0_trust_1 : decode cX0_trust 1 = .ok (.iconst 0, 1) := dk_3 (dk_at dksX0_trust_0 1 rfl rfl)
theorem dX0_trust_2 : decode cX0_trust 2 = .ok (.aload_n 0, 1) := dk_42 (dk_at dksX0_trust_0 2 rfl rfl)
theorem dX0_trust_3 : decode cX0_trust 3 = .ok (.iload_n 1, 1) := dk_27 (dk_at dksX0_trust_0 3 rfl rfl)
theorem dX0_trust_4 : decode cX0_trust 4 = .ok (.invokevirtual 41, 3) := dk_182 0 41 (dk_at dksX0_trust_0 4 rfl rfl)
theorem dX0_trust_7 : decode cX0_trust 7 = .ok (.f2d, 1) := dk_141 (dk_at dksX0_trust_0 7 rfl rfl)
theorem dX0_trust_8 : decode cX0_trust 8 = .ok (.dastore, 1) := dk_82 (dk_at dksX0_trust_0 8 rfl rfl)
theorem dX0_trust_9 : decode cX0_trust 9 = .ok (.goto 6, 3) := dk_167 0 6 (dk_at dksX0_trust_0 9 rfl rfl)
theorem dX0_trust_12 : decode cX0_trust 12 = .ok (.astore_n 3, 1) := dk_78 (dk_at dksX0_trust_0 12 rfl rfl)
theorem dX0_trust_13 : decode cX0_trust 13 = .ok (.iconst 1, 1) := dk_4 (dk_at dksX0_trust_0 13 rfl rfl)
theorem dX0_trust_14 : decode cX0_trust 14 = .ok (.ireturn, 1) := dk_172 (dk_at dksX0_trust_0 14 rfl rfl)
theorem dX0_trust_15 : decode cX0_trust 15 = .ok (.iconst 0, 1) := dk_3 (dk_at dksX0_trust_0 15 rfl rfl)
theorem dX0_trust_16 : decode cX0_trust 16 = .ok (.ireturn, 1) := dk_172 (dk_at dksX0_trust_0 16 rfl rfl)
abbrev cX0_trustBits : ByteArray := method_11_code
def yX0_trustBits : MethodName := ⟨RX0, "trustBits", "(LMatchmakerRules;I[J)I"⟩
def dkwX0_trustBits_0 : List UInt8 := [44, 3, 42, 27, 182, 0, 45, 133, 80, 167, 0, 6, 78, 4, 172, 3, 172]
abbrev dktX0_trustBits_0 : List UInt8 := dkwX0_trustBits_0 ++ []
theorem dksX0_trustBits_0 : cX0_trustBits.data.toList.drop 0 = dktX0_trustBits_0 := by decide +kernel
theorem dX0_trustBits_0 : decode cX0_trustBits 0 = .ok (.aload_n 2, 1) := dk_44 (dk_at dksX0_trustBits_0 0 rfl rfl)
theorem dX0_trustBits_1 : decode cX0_trustBits 1 = .ok (.iconst 0, 1) := dk_3 (dk_at dksX0_trustBits_0 1 rfl rfl)
theorem dX0_trustBits_2 : decode cX0_trustBits 2 = .ok (.aload_n 0, 1) := dk_42 (dk_at dksX0_trustBits_0 2 rfl rfl)
theorem dX0_trustBits_3 : decode cX0_trustBits 3 = .ok (.iload_n 1, 1) := dk_27 (dk_at dksX0_trustBits_0 3 rfl rfl)
theorem dX0_trustBits_4 : decode cX0_trustBits 4 = .ok (.invokevirtual 45, 3) := dk_182 0 45 (dk_at dksX0_trustBits_0 4 rfl rfl)
theorem dX0_trustBits_7 : decode cX0_trustBits 7 = .ok (.i2l, 1) := dk_133 (dk_at dksX0_trustBits_0 7 rfl rfl)
theorem dX0_trustBits_8 : decode cX0_trustBits 8 = .ok (.lastore, 1) := dk_80 (dk_at dksX0_trustBits_0 8 rfl rfl)
theorem dX0_trustBits_9 : decode cX0_trustBits 9 = .ok (.goto 6, 3) := dk_167 0 6 (dk_at dksX0_trustBits_0 9 rfl rfl)
theorem dX0_trustBits_12 : decode cX0_trustBits 12 = .ok (.astore_n 3, 1) := dk_78 (dk_at dksX0_trustBits_0 12 rfl rfl)
theorem dX0_trustBits_13 : decode cX0_trustBits 13 = .ok (.iconst 1, 1) := dk_4 (dk_at dksX0_trustBits_0 13 rfl rfl)
theorem dX0_trustBits_14 : decode cX0_trustBits 14 = .ok (.ireturn, 1) := dk_172 (dk_at dksX0_trustBits_0 14 rfl rfl)
theorem dX0_trustBits_15 : decode cX0_trustBits 15 = .ok (.iconst 0, 1) := dk_3 (dk_at dksX0_trustBits_0 15 rfl rfl)
theorem dX0_trustBits_16 : decode cX0_trustBits 16 = .ok (.ireturn, 1) := dk_172 (dk_at dksX0_trustBits_0 16 rfl rfl)
abbrev cX0_trusted : ByteArray := method_12_code
def yX0_trusted : MethodName := ⟨RX0, "trusted", "(LMatchmakerRules;I[J)I"⟩
def dkwX0_trusted_0 : List UInt8 := [44, 3, 42, 27, 182, 0, 48, 133, 80, 167, 0, 6, 78, 4, 172, 3, 172]
abbrev dktX0_trusted_0 : List UInt8 := dkwX0_trusted_0 ++ []
theorem dksX0_trusted_0 : cX0_trusted.data.toList.drop 0 = dktX0_trusted_0 := by decide +kernel
theorem dX0_trusted_0 : decode cX0_trusted 0 = .ok (.aload_n 2, 1) := dk_44 (dk_at dksX0_trusted_0 0 rfl rfl)
theorem dX0_trusted_1 : decode cX0_trusted 1 = .ok (.iconst 0, 1) := dk_3 (dk_at dksX0_trusted_0 1 rfl rfl)
theorem dX0_trusted_2 : decode cX0_trusted 2 = .ok (.aload_n 0, 1) := dk_42 (dk_at dksX0_trusted_0 2 rfl rfl)
theorem dX0_trusted_3 : decode cX0_trusted 3 = .ok (.iload_n 1, 1) := dk_27 (dk_at dksX0_trusted_0 3 rfl rfl)
theorem dX0_trusted_4 : decode cX0_trusted 4 = .ok (.invokevirtual 48, 3) := dk_182 0 48 (dk_at dksX0_trusted_0 4 rfl rfl)
theorem dX0_trusted_7 : decode cX0_trusted 7 = .ok (.i2l, 1) := dk_133 (dk_at dksX0_trusted_0 7 rfl rfl)
theorem dX0_trusted_8 : decode cX0_trusted 8 = .ok (.lastore, 1) := dk_80 (dk_at dksX0_trusted_0 8 rfl rfl)
theorem dX0_trusted_9 : decode cX0_trusted 9 = .ok (.goto 6, 3) := dk_167 0 6 (dk_at dksX0_trusted_0 9 rfl rfl)
theorem dX0_trusted_12 : decode cX0_trusted 12 = .ok (.astore_n 3, 1) := dk_78 (dk_at dksX0_trusted_0 12 rfl rfl)
theorem dX0_trusted_13 : decode cX0_trusted 13 = .ok (.iconst 1, 1) := dk_4 (dk_at dksX0_trusted_0 13 rfl rfl)
theorem dX0_trusted_14 : decode cX0_trusted 14 = .ok (.ireturn, 1) := dk_172 (dk_at dksX0_trusted_0 14 rfl rfl)
theorem dX0_trusted_15 : decode cX0_trusted 15 = .ok (.iconst 0, 1) := dk_3 (dk_at dksX0_trusted_0 15 rfl rfl)
theorem dX0_trusted_16 : decode cX0_trusted 16 = .ok (.ireturn, 1) := dk_172 (dk_at dksX0_trusted_0 16 rfl rfl)
abbrev cX0_agenda : ByteArray := method_13_code
def yX0_agenda : MethodName := ⟨RX0, "agenda", "(LMatchmakerRules;II[J)I"⟩
def dkwX0_agenda_0 : List UInt8 := [45, 3, 42, 27, 28, 182, 0, 51, 133, 80, 167, 0, 11, 58, 4, 4, 172, 58, 4, 5, 172, 3, 172]
abbrev dktX0_agenda_0 : List UInt8 := dkwX0_agenda_0 ++ []
theorem dksX0_agenda_0 : cX0_agenda.data.toList.drop 0 = dktX0_agenda_0 := by decide +kernel
theorem dX0_agenda_0 : decode cX0_agenda 0 = .ok (.aload_n 3, 1) := dk_45 (dk_at dksX0_agenda_0 0 rfl rfl)
theorem dX0_agenda_1 : decode cX0_agenda 1 = .ok (.iconst 0, 1) := dk_3 (dk_at dksX0_agenda_0 1 rfl rfl)
theorem dX0_agenda_2 : decode cX0_agenda 2 = .ok (.aload_n 0, 1) := dk_42 (dk_at dksX0_agenda_0 2 rfl rfl)
theorem dX0_agenda_3 : decode cX0_agenda 3 = .ok (.iload_n 1, 1) := dk_27 (dk_at dksX0_agenda_0 3 rfl rfl)
theorem dX0_agenda_4 : decode cX0_agenda 4 = .ok (.iload_n 2, 1) := dk_28 (dk_at dksX0_agenda_0 4 rfl rfl)
theorem dX0_agenda_5 : decode cX0_agenda 5 = .ok (.invokevirtual 51, 3) := dk_182 0 51 (dk_at dksX0_agenda_0 5 rfl rfl)
theorem dX0_agenda_8 : decode cX0_agenda 8 = .ok (.i2l, 1) := dk_133 (dk_at dksX0_agenda_0 8 rfl rfl)
theorem dX0_agenda_9 : decode cX0_agenda 9 = .ok (.lastore, 1) := dk_80 (dk_at dksX0_agenda_0 9 rfl rfl)
theorem dX0_agenda_10 : decode cX0_agenda 10 = .ok (.goto 11, 3) := dk_167 0 11 (dk_at dksX0_agenda_0 10 rfl rfl)
theorem dX0_agenda_13 : decode cX0_agenda 13 = .ok (.astore 4, 2) := dk_58 4 (dk_at dksX0_agenda_0 13 rfl rfl)
theorem dX0_agenda_15 : decode cX0_agenda 15 = .ok (.iconst 1, 1) := dk_4 (dk_at dksX0_agenda_0 15 rfl rfl)
theorem dX0_agenda_16 : decode cX0_agenda 16 = .ok (.ireturn, 1) := dk_172 (dk_at dksX0_agenda_0 16 rfl rfl)
theorem dX0_agenda_17 : decode cX0_agenda 17 = .ok (.astore 4, 2) := dk_58 4 (dk_at dksX0_agenda_0 17 rfl rfl)
theorem dX0_agenda_19 : decode cX0_agenda 19 = .ok (.iconst 2, 1) := dk_5 (dk_at dksX0_agenda_0 19 rfl rfl)
theorem dX0_agenda_20 : decode cX0_agenda 20 = .ok (.ireturn, 1) := dk_172 (dk_at dksX0_agenda_0 20 rfl rfl)
theorem dX0_agenda_21 : decode cX0_agenda 21 = .ok (.iconst 0, 1) := dk_3 (dk_at dksX0_agenda_0 21 rfl rfl)
theorem dX0_agenda_22 : decode cX0_agenda 22 = .ok (.ireturn, 1) := dk_172 (dk_at dksX0_agenda_0 22 rfl rfl)
abbrev cX0_matches : ByteArray := method_14_code
def yX0_matches : MethodName := ⟨RX0, "matches", "(LMatchmakerRules;I[J)I"⟩
def dkwX0_matches_0 : List UInt8 := [44, 3, 42, 27, 182, 0, 54, 133, 80, 167, 0, 6, 78, 4, 172, 3, 172]
abbrev dktX0_matches_0 : List UInt8 := dkwX0_matches_0 ++ []
theorem dksX0_matches_0 : cX0_matches.data.toList.drop 0 = dktX0_matches_0 := by decide +kernel
theorem dX0_matches_0 : decode cX0_matches 0 = .ok (.aload_n 2, 1) := dk_44 (dk_at dksX0_matches_0 0 rfl rfl)
theorem dX0_matches_1 : decode cX0_matches 1 = .ok (.iconst 0, 1) := dk_3 (dk_at dksX0_matches_0 1 rfl rfl)
theorem dX0_matches_2 : decode cX0_matches 2 = .ok (.aload_n 0, 1) := dk_42 (dk_at dksX0_matches_0 2 rfl rfl)
theorem dX0_matches_3 : decode cX0_matches 3 = .ok (.iload_n 1, 1) := dk_27 (dk_at dksX0_matches_0 3 rfl rfl)
theorem dX0_matches_4 : decode cX0_matches 4 = .ok (.invokevirtual 54, 3) := dk_182 0 54 (dk_at dksX0_matches_0 4 rfl rfl)
theorem dX0_matches_7 : decode cX0_matches 7 = .ok (.i2l, 1) := dk_133 (dk_at dksX0_matches_0 7 rfl rfl)
theorem dX0_matches_8 : decode cX0_matches 8 = .ok (.lastore, 1) := dk_80 (dk_at dksX0_matches_0 8 rfl rfl)
theorem dX0_matches_9 : decode cX0_matches 9 = .ok (.goto 6, 3) := dk_167 0 6 (dk_at dksX0_matches_0 9 rfl rfl)
theorem dX0_matches_12 : decode cX0_matches 12 = .ok (.astore_n 3, 1) := dk_78 (dk_at dksX0_matches_0 12 rfl rfl)
theorem dX0_matches_13 : decode cX0_matches 13 = .ok (.iconst 1, 1) := dk_4 (dk_at dksX0_matches_0 13 rfl rfl)
theorem dX0_matches_14 : decode cX0_matches 14 = .ok (.ireturn, 1) := dk_172 (dk_at dksX0_matches_0 14 rfl rfl)
theorem dX0_matches_15 : decode cX0_matches 15 = .ok (.iconst 0, 1) := dk_3 (dk_at dksX0_matches_0 15 rfl rfl)
theorem dX0_matches_16 : decode cX0_matches 16 = .ok (.ireturn, 1) := dk_172 (dk_at dksX0_matches_0 16 rfl rfl)
abbrev cX0_fire : ByteArray := method_15_code
def yX0_fire : MethodName := ⟨RX0, "fire", "(LMatchmakerRules;[J)I"⟩
def dkwX0_fire_0 : List UInt8 := [43, 3, 42, 182, 0, 59, 133, 80, 167, 0, 6, 77, 4, 172, 3, 172]
abbrev dktX0_fire_0 : List UInt8 := dkwX0_fire_0 ++ []
theorem dksX0_fire_0 : cX0_fire.data.toList.drop 0 = dktX0_fire_0 := by decide +kernel
theorem dX0_fire_0 : decode cX0_fire 0 = .ok (.aload_n 1, 1) := dk_43 (dk_at dksX0_fire_0 0 rfl rfl)
theorem dX0_fire_1 : decode cX0_fire 1 = .ok (.iconst 0, 1) := dk_3 (dk_at dksX0_fire_0 1 rfl rfl)
theorem dX0_fire_2 : decode cX0_fire 2 = .ok (.aload_n 0, 1) := dk_42 (dk_at dksX0_fire_0 2 rfl rfl)
theorem dX0_fire_3 : decode cX0_fire 3 = .ok (.invokevirtual 59, 3) := dk_182 0 59 (dk_at dksX0_fire_0 3 rfl rfl)
theorem dX0_fire_6 : decode cX0_fire 6 = .ok (.i2l, 1) := dk_133 (dk_at dksX0_fire_0 6 rfl rfl)
theorem dX0_fire_7 : decode cX0_fire 7 = .ok (.lastore, 1) := dk_80 (dk_at dksX0_fire_0 7 rfl rfl)
theorem dX0_fire_8 : decode cX0_fire 8 = .ok (.goto 6, 3) := dk_167 0 6 (dk_at dksX0_fire_0 8 rfl rfl)
theorem dX0_fire_11 : decode cX0_fire 11 = .ok (.astore_n 2, 1) := dk_77 (dk_at dksX0_fire_0 11 rfl rfl)
theorem dX0_fire_12 : decode cX0_fire 12 = .ok (.iconst 1, 1) := dk_4 (dk_at dksX0_fire_0 12 rfl rfl)
theorem dX0_fire_13 : decode cX0_fire 13 = .ok (.ireturn, 1) := dk_172 (dk_at dksX0_fire_0 13 rfl rfl)
theorem dX0_fire_14 : decode cX0_fire 14 = .ok (.iconst 0, 1) := dk_3 (dk_at dksX0_fire_0 14 rfl rfl)
theorem dX0_fire_15 : decode cX0_fire 15 = .ok (.ireturn, 1) := dk_172 (dk_at dksX0_fire_0 15 rfl rfl)
abbrev cX0_run : ByteArray := method_16_code
def yX0_run : MethodName := ⟨RX0, "run", "(LMatchmakerRules;I[J)I"⟩
def dkwX0_run_0 : List UInt8 := [44, 3, 42, 27, 182, 0, 62, 133, 80, 167, 0, 6, 78, 4, 172, 3, 172]
abbrev dktX0_run_0 : List UInt8 := dkwX0_run_0 ++ []
theorem dksX0_run_0 : cX0_run.data.toList.drop 0 = dktX0_run_0 := by decide +kernel
theorem dX0_run_0 : decode cX0_run 0 = .ok (.aload_n 2, 1) := dk_44 (dk_at dksX0_run_0 0 rfl rfl)
theorem dX0_run_1 : decode cX0_run 1 = .ok (.iconst 0, 1) := dk_3 (dk_at dksX0_run_0 1 rfl rfl)
theorem dX0_run_2 : decode cX0_run 2 = .ok (.aload_n 0, 1) := dk_42 (dk_at dksX0_run_0 2 rfl rfl)
theorem dX0_run_3 : decode cX0_run 3 = .ok (.iload_n 1, 1) := dk_27 (dk_at dksX0_run_0 3 rfl rfl)
theorem dX0_run_4 : decode cX0_run 4 = .ok (.invokevirtual 62, 3) := dk_182 0 62 (dk_at dksX0_run_0 4 rfl rfl)
theorem dX0_run_7 : decode cX0_run 7 = .ok (.i2l, 1) := dk_133 (dk_at dksX0_run_0 7 rfl rfl)
theorem dX0_run_8 : decode cX0_run 8 = .ok (.lastore, 1) := dk_80 (dk_at dksX0_run_0 8 rfl rfl)
theorem dX0_run_9 : decode cX0_run 9 = .ok (.goto 6, 3) := dk_167 0 6 (dk_at dksX0_run_0 9 rfl rfl)
theorem dX0_run_12 : decode cX0_run 12 = .ok (.astore_n 3, 1) := dk_78 (dk_at dksX0_run_0 12 rfl rfl)
theorem dX0_run_13 : decode cX0_run 13 = .ok (.iconst 1, 1) := dk_4 (dk_at dksX0_run_0 13 rfl rfl)
theorem dX0_run_14 : decode cX0_run 14 = .ok (.ireturn, 1) := dk_172 (dk_at dksX0_run_0 14 rfl rfl)
theorem dX0_run_15 : decode cX0_run 15 = .ok (.iconst 0, 1) := dk_3 (dk_at dksX0_run_0 15 rfl rfl)
theorem dX0_run_16 : decode cX0_run 16 = .ok (.ireturn, 1) := dk_172 (dk_at dksX0_run_0 16 rfl rfl)
abbrev cX0_quietIn : ByteArray := method_17_code
def yX0_quietIn : MethodName := ⟨RX0, "quietIn", "(LMatchmakerRules;[J)I"⟩
def dkwX0_quietIn_0 : List UInt8 := [43, 3, 42, 182, 0, 65, 133, 80, 167, 0, 6, 77, 4, 172, 3, 172]
abbrev dktX0_quietIn_0 : List UInt8 := dkwX0_quietIn_0 ++ []
theorem dksX0_quietIn_0 : cX0_quietIn.data.toList.drop 0 = dktX0_quietIn_0 := by decide +kernel
theorem dX0_quietIn_0 : decode cX0_quietIn 0 = .ok (.aload_n 1, 1) := dk_43 (dk_at dksX0_quietIn_0 0 rfl rfl)
theorem dX0_quietIn_1 : decode cX0_quietIn 1 = .ok (.iconst 0, 1) := dk_3 (dk_at dksX0_quietIn_0 1 rfl rfl)
theorem dX0_quietIn_2 : decode cX0_quietIn 2 = .ok (.aload_n 0, 1) := dk_42 (dk_at dksX0_quietIn_0 2 rfl rfl)
theorem dX0_quietIn_3 : decode cX0_quietIn 3 = .ok (.invokevirtual 65, 3) := dk_182 0 65 (dk_at dksX0_quietIn_0 3 rfl rfl)
theorem dX0_quietIn_6 : decode cX0_quietIn 6 = .ok (.i2l, 1) := dk_133 (dk_at dksX0_quietIn_0 6 rfl rfl)
theorem dX0_quietIn_7 : decode cX0_quietIn 7 = .ok (.lastore, 1) := dk_80 (dk_at dksX0_quietIn_0 7 rfl rfl)
theorem dX0_quietIn_8 : decode cX0_quietIn 8 = .ok (.goto 6, 3) := dk_167 0 6 (dk_at dksX0_quietIn_0 8 rfl rfl)
theorem dX0_quietIn_11 : decode cX0_quietIn 11 = .ok (.astore_n 2, 1) := dk_77 (dk_at dksX0_quietIn_0 11 rfl rfl)
theorem dX0_quietIn_12 : decode cX0_quietIn 12 = .ok (.iconst 1, 1) := dk_4 (dk_at dksX0_quietIn_0 12 rfl rfl)
theorem dX0_quietIn_13 : decode cX0_quietIn 13 = .ok (.ireturn, 1) := dk_172 (dk_at dksX0_quietIn_0 13 rfl rfl)
theorem dX0_quietIn_14 : decode cX0_quietIn 14 = .ok (.iconst 0, 1) := dk_3 (dk_at dksX0_quietIn_0 14 rfl rfl)
theorem dX0_quietIn_15 : decode cX0_quietIn 15 = .ok (.ireturn, 1) := dk_172 (dk_at dksX0_quietIn_0 15 rfl rfl)
abbrev cX0_why : ByteArray := method_18_code
def yX0_why : MethodName := ⟨RX0, "why", "(LMatchmakerRules;III[J)I"⟩
def dkwX0_why_1 : List UInt8 := [172]
abbrev dktX0_why_1 : List UInt8 := dkwX0_why_1 ++ []
def dkwX0_why_0 : List UInt8 := [25, 4, 3, 42, 27, 28, 29, 182, 0, 68, 133, 80, 167, 0, 11, 58, 5, 4, 172, 58, 5, 5, 172, 3]
abbrev dktX0_why_0 : List UInt8 := dkwX0_why_0 ++ dktX0_why_1
theorem dksX0_why_0 : cX0_why.data.toList.drop 0 = dktX0_why_0 := by decide +kernel
theorem dksX0_why_1 : cX0_why.data.toList.drop 24 = dktX0_why_1 := dk_seg dksX0_why_0 24 rfl rfl
theorem dX0_why_0 : decode cX0_why 0 = .ok (.aload 4, 2) := dk_25 4 (dk_at dksX0_why_0 0 rfl rfl)
theorem dX0_why_2 : decode cX0_why 2 = .ok (.iconst 0, 1) := dk_3 (dk_at dksX0_why_0 2 rfl rfl)
theorem dX0_why_3 : decode cX0_why 3 = .ok (.aload_n 0, 1) := dk_42 (dk_at dksX0_why_0 3 rfl rfl)
theorem dX0_why_4 : decode cX0_why 4 = .ok (.iload_n 1, 1) := dk_27 (dk_at dksX0_why_0 4 rfl rfl)
theorem dX0_why_5 : decode cX0_why 5 = .ok (.iload_n 2, 1) := dk_28 (dk_at dksX0_why_0 5 rfl rfl)
theorem dX0_why_6 : decode cX0_why 6 = .ok (.iload_n 3, 1) := dk_29 (dk_at dksX0_why_0 6 rfl rfl)
theorem dX0_why_7 : decode cX0_why 7 = .ok (.invokevirtual 68, 3) := dk_182 0 68 (dk_at dksX0_why_0 7 rfl rfl)
theorem dX0_why_10 : decode cX0_why 10 = .ok (.i2l, 1) := dk_133 (dk_at dksX0_why_0 10 rfl rfl)
theorem dX0_why_11 : decode cX0_why 11 = .ok (.lastore, 1) := dk_80 (dk_at dksX0_why_0 11 rfl rfl)
theorem dX0_why_12 : decode cX0_why 12 = .ok (.goto 11, 3) := dk_167 0 11 (dk_at dksX0_why_0 12 rfl rfl)
theorem dX0_why_15 : decode cX0_why 15 = .ok (.astore 5, 2) := dk_58 5 (dk_at dksX0_why_0 15 rfl rfl)
theorem dX0_why_17 : decode cX0_why 17 = .ok (.iconst 1, 1) := dk_4 (dk_at dksX0_why_0 17 rfl rfl)
theorem dX0_why_18 : decode cX0_why 18 = .ok (.ireturn, 1) := dk_172 (dk_at dksX0_why_0 18 rfl rfl)
theorem dX0_why_19 : decode cX0_why 19 = .ok (.astore 5, 2) := dk_58 5 (dk_at dksX0_why_0 19 rfl rfl)
theorem dX0_why_21 : decode cX0_why 21 = .ok (.iconst 2, 1) := dk_5 (dk_at dksX0_why_0 21 rfl rfl)
theorem dX0_why_22 : decode cX0_why 22 = .ok (.ireturn, 1) := dk_172 (dk_at dksX0_why_0 22 rfl rfl)
theorem dX0_why_23 : decode cX0_why 23 = .ok (.iconst 0, 1) := dk_3 (dk_at dksX0_why_0 23 rfl rfl)
theorem dX0_why_24 : decode cX0_why 24 = .ok (.ireturn, 1) := dk_172 (dk_at dksX0_why_1 0 rfl rfl)
abbrev cX0_wouldGo : ByteArray := method_19_code
def yX0_wouldGo : MethodName := ⟨RX0, "wouldGo", "(LMatchmakerRules;I[J)I"⟩
def dkwX0_wouldGo_0 : List UInt8 := [44, 3, 42, 27, 182, 0, 72, 133, 80, 167, 0, 6, 78, 4, 172, 3, 172]
abbrev dktX0_wouldGo_0 : List UInt8 := dkwX0_wouldGo_0 ++ []
theorem dksX0_wouldGo_0 : cX0_wouldGo.data.toList.drop 0 = dktX0_wouldGo_0 := by decide +kernel
theorem dX0_wouldGo_0 : decode cX0_wouldGo 0 = .ok (.aload_n 2, 1) := dk_44 (dk_at dksX0_wouldGo_0 0 rfl rfl)
theorem dX0_wouldGo_1 : decode cX0_wouldGo 1 = .ok (.iconst 0, 1) := dk_3 (dk_at dksX0_wouldGo_0 1 rfl rfl)
theorem dX0_wouldGo_2 : decode cX0_wouldGo 2 = .ok (.aload_n 0, 1) := dk_42 (dk_at dksX0_wouldGo_0 2 rfl rfl)
theorem dX0_wouldGo_3 : decode cX0_wouldGo 3 = .ok (.iload_n 1, 1) := dk_27 (dk_at dksX0_wouldGo_0 3 rfl rfl)
theorem dX0_wouldGo_4 : decode cX0_wouldGo 4 = .ok (.invokevirtual 72, 3) := dk_182 0 72 (dk_at dksX0_wouldGo_0 4 rfl rfl)
theorem dX0_wouldGo_7 : decode cX0_wouldGo 7 = .ok (.i2l, 1) := dk_133 (dk_at dksX0_wouldGo_0 7 rfl rfl)
theorem dX0_wouldGo_8 : decode cX0_wouldGo 8 = .ok (.lastore, 1) := dk_80 (dk_at dksX0_wouldGo_0 8 rfl rfl)
theorem dX0_wouldGo_9 : decode cX0_wouldGo 9 = .ok (.goto 6, 3) := dk_167 0 6 (dk_at dksX0_wouldGo_0 9 rfl rfl)
theorem dX0_wouldGo_12 : decode cX0_wouldGo 12 = .ok (.astore_n 3, 1) := dk_78 (dk_at dksX0_wouldGo_0 12 rfl rfl)
theorem dX0_wouldGo_13 : decode cX0_wouldGo 13 = .ok (.iconst 1, 1) := dk_4 (dk_at dksX0_wouldGo_0 13 rfl rfl)
theorem dX0_wouldGo_14 : decode cX0_wouldGo 14 = .ok (.ireturn, 1) := dk_172 (dk_at dksX0_wouldGo_0 14 rfl rfl)
theorem dX0_wouldGo_15 : decode cX0_wouldGo 15 = .ok (.iconst 0, 1) := dk_3 (dk_at dksX0_wouldGo_0 15 rfl rfl)
theorem dX0_wouldGo_16 : decode cX0_wouldGo 16 = .ok (.ireturn, 1) := dk_172 (dk_at dksX0_wouldGo_0 16 rfl rfl)
abbrev cX0_line : ByteArray := method_20_code
def yX0_line : MethodName := ⟨RX0, "line", "(LMatchmakerRules;I[J)I"⟩
def dkwX0_line_0 : List UInt8 := [44, 3, 42, 27, 182, 0, 75, 133, 80, 167, 0, 6, 78, 4, 172, 3, 172]
abbrev dktX0_line_0 : List UInt8 := dkwX0_line_0 ++ []
theorem dksX0_line_0 : cX0_line.data.toList.drop 0 = dktX0_line_0 := by decide +kernel
theorem dX0_line_0 : decode cX0_line 0 = .ok (.aload_n 2, 1) := dk_44 (dk_at dksX0_line_0 0 rfl rfl)
theorem dX0_line_1 : decode cX0_line 1 = .ok (.iconst 0, 1) := dk_3 (dk_at dksX0_line_0 1 rfl rfl)
theorem dX0_line_2 : decode cX0_line 2 = .ok (.aload_n 0, 1) := dk_42 (dk_at dksX0_line_0 2 rfl rfl)
theorem dX0_line_3 : decode cX0_line 3 = .ok (.iload_n 1, 1) := dk_27 (dk_at dksX0_line_0 3 rfl rfl)
theorem dX0_line_4 : decode cX0_line 4 = .ok (.invokevirtual 75, 3) := dk_182 0 75 (dk_at dksX0_line_0 4 rfl rfl)
theorem dX0_line_7 : decode cX0_line 7 = .ok (.i2l, 1) := dk_133 (dk_at dksX0_line_0 7 rfl rfl)
theorem dX0_line_8 : decode cX0_line 8 = .ok (.lastore, 1) := dk_80 (dk_at dksX0_line_0 8 rfl rfl)
theorem dX0_line_9 : decode cX0_line 9 = .ok (.goto 6, 3) := dk_167 0 6 (dk_at dksX0_line_0 9 rfl rfl)
theorem dX0_line_12 : decode cX0_line 12 = .ok (.astore_n 3, 1) := dk_78 (dk_at dksX0_line_0 12 rfl rfl)
theorem dX0_line_13 : decode cX0_line 13 = .ok (.iconst 1, 1) := dk_4 (dk_at dksX0_line_0 13 rfl rfl)
theorem dX0_line_14 : decode cX0_line 14 = .ok (.ireturn, 1) := dk_172 (dk_at dksX0_line_0 14 rfl rfl)
theorem dX0_line_15 : decode cX0_line 15 = .ok (.iconst 0, 1) := dk_3 (dk_at dksX0_line_0 15 rfl rfl)
theorem dX0_line_16 : decode cX0_line 16 = .ok (.ireturn, 1) := dk_172 (dk_at dksX0_line_0 16 rfl rfl)
abbrev cX0_factLine : ByteArray := method_21_code
def yX0_factLine : MethodName := ⟨RX0, "factLine", "(LMatchmakerRules;I[J)I"⟩
def dkwX0_factLine_0 : List UInt8 := [44, 3, 42, 27, 182, 0, 78, 133, 80, 167, 0, 6, 78, 4, 172, 3, 172]
abbrev dktX0_factLine_0 : List UInt8 := dkwX0_factLine_0 ++ []
theorem dksX0_factLine_0 : cX0_factLine.data.toList.drop 0 = dktX0_factLine_0 := by decide +kernel
theorem dX0_factLine_0 : decode cX0_factLine 0 = .ok (.aload_n 2, 1) := dk_44 (dk_at dksX0_factLine_0 0 rfl rfl)
theorem dX0_factLine_1 : decode cX0_factLine 1 = .ok (.iconst 0, 1) := dk_3 (dk_at dksX0_factLine_0 1 rfl rfl)
theorem dX0_factLine_2 : decode cX0_factLine 2 = .ok (.aload_n 0, 1) := dk_42 (dk_at dksX0_factLine_0 2 rfl rfl)
theorem dX0_factLine_3 : decode cX0_factLine 3 = .ok (.iload_n 1, 1) := dk_27 (dk_at dksX0_factLine_0 3 rfl rfl)
theorem dX0_factLine_4 : decode cX0_factLine 4 = .ok (.invokevirtual 78, 3) := dk_182 0 78 (dk_at dksX0_factLine_0 4 rfl rfl)
theorem dX0_factLine_7 : decode cX0_factLine 7 = .ok (.i2l, 1) := dk_133 (dk_at dksX0_factLine_0 7 rfl rfl)
theorem dX0_factLine_8 : decode cX0_factLine 8 = .ok (.lastore, 1) := dk_80 (dk_at dksX0_factLine_0 8 rfl rfl)
theorem dX0_factLine_9 : decode cX0_factLine 9 = .ok (.goto 6, 3) := dk_167 0 6 (dk_at dksX0_factLine_0 9 rfl rfl)
theorem dX0_factLine_12 : decode cX0_factLine 12 = .ok (.astore_n 3, 1) := dk_78 (dk_at dksX0_factLine_0 12 rfl rfl)
theorem dX0_factLine_13 : decode cX0_factLine 13 = .ok (.iconst 1, 1) := dk_4 (dk_at dksX0_factLine_0 13 rfl rfl)
theorem dX0_factLine_14 : decode cX0_factLine 14 = .ok (.ireturn, 1) := dk_172 (dk_at dksX0_factLine_0 14 rfl rfl)
theorem dX0_factLine_15 : decode cX0_factLine 15 = .ok (.iconst 0, 1) := dk_3 (dk_at dksX0_factLine_0 15 rfl rfl)
theorem dX0_factLine_16 : decode cX0_factLine 16 = .ok (.ireturn, 1) := dk_172 (dk_at dksX0_factLine_0 16 rfl rfl)
abbrev cX0_character : ByteArray := method_22_code
def yX0_character : MethodName := ⟨RX0, "character", "(LMatchmakerRules;I[J)I"⟩
def dkwX0_character_0 : List UInt8 := [44, 3, 42, 27, 182, 0, 81, 133, 80, 167, 0, 6, 78, 4, 172, 3, 172]
abbrev dktX0_character_0 : List UInt8 := dkwX0_character_0 ++ []
theorem dksX0_character_0 : cX0_character.data.toList.drop 0 = dktX0_character_0 := by decide +kernel
theorem dX0_character_0 : decode cX0_character 0 = .ok (.aload_n 2, 1) := dk_44 (dk_at dksX0_character_0 0 rfl rfl)
theorem dX0_character_1 : decode cX0_character 1 = .ok (.iconst 0, 1) := dk_3 (dk_at dksX0_character_0 1 rfl rfl)
theorem dX0_character_2 : decode cX0_character 2 = .ok (.aload_n 0, 1) := dk_42 (dk_at dksX0_character_0 2 rfl rfl)
theorem dX0_character_3 : decode cX0_character 3 = .ok (.iload_n 1, 1) := dk_27 (dk_at dksX0_character_0 3 rfl rfl)
theorem dX0_character_4 : decode cX0_character 4 = .ok (.invokevirtual 81, 3) := dk_182 0 81 (dk_at dksX0_character_0 4 rfl rfl)
theorem dX0_character_7 : decode cX0_character 7 = .ok (.i2l, 1) := dk_133 (dk_at dksX0_character_0 7 rfl rfl)
theorem dX0_character_8 : decode cX0_character 8 = .ok (.lastore, 1) := dk_80 (dk_at dksX0_character_0 8 rfl rfl)
theorem dX0_character_9 : decode cX0_character 9 = .ok (.goto 6, 3) := dk_167 0 6 (dk_at dksX0_character_0 9 rfl rfl)
theorem dX0_character_12 : decode cX0_character 12 = .ok (.astore_n 3, 1) := dk_78 (dk_at dksX0_character_0 12 rfl rfl)
theorem dX0_character_13 : decode cX0_character 13 = .ok (.iconst 1, 1) := dk_4 (dk_at dksX0_character_0 13 rfl rfl)
theorem dX0_character_14 : decode cX0_character 14 = .ok (.ireturn, 1) := dk_172 (dk_at dksX0_character_0 14 rfl rfl)
theorem dX0_character_15 : decode cX0_character 15 = .ok (.iconst 0, 1) := dk_3 (dk_at dksX0_character_0 15 rfl rfl)
theorem dX0_character_16 : decode cX0_character 16 = .ok (.ireturn, 1) := dk_172 (dk_at dksX0_character_0 16 rfl rfl)
abbrev cX0_refusal : ByteArray := method_23_code
def yX0_refusal : MethodName := ⟨RX0, "refusal", "(LMatchmakerRules;Z[J)I"⟩
def dkwX0_refusal_0 : List UInt8 := [44, 3, 42, 27, 182, 0, 85, 133, 80, 167, 0, 6, 78, 4, 172, 3, 172]
abbrev dktX0_refusal_0 : List UInt8 := dkwX0_refusal_0 ++ []
theorem dksX0_refusal_0 : cX0_refusal.data.toList.drop 0 = dktX0_refusal_0 := by decide +kernel
theorem dX0_refusal_0 : decode cX0_refusal 0 = .ok (.aload_n 2, 1) := dk_44 (dk_at dksX0_refusal_0 0 rfl rfl)
theorem dX0_refusal_1 : decode cX0_refusal 1 = .ok (.iconst 0, 1) := dk_3 (dk_at dksX0_refusal_0 1 rfl rfl)
theorem dX0_refusal_2 : decode cX0_refusal 2 = .ok (.aload_n 0, 1) := dk_42 (dk_at dksX0_refusal_0 2 rfl rfl)
theorem dX0_refusal_3 : decode cX0_refusal 3 = .ok (.iload_n 1, 1) := dk_27 (dk_at dksX0_refusal_0 3 rfl rfl)
theorem dX0_refusal_4 : decode cX0_refusal 4 = .ok (.invokevirtual 85, 3) := dk_182 0 85 (dk_at dksX0_refusal_0 4 rfl rfl)
theorem dX0_refusal_7 : decode cX0_refusal 7 = .ok (.i2l, 1) := dk_133 (dk_at dksX0_refusal_0 7 rfl rfl)
theorem dX0_refusal_8 : decode cX0_refusal 8 = .ok (.lastore, 1) := dk_80 (dk_at dksX0_refusal_0 8 rfl rfl)
theorem dX0_refusal_9 : decode cX0_refusal 9 = .ok (.goto 6, 3) := dk_167 0 6 (dk_at dksX0_refusal_0 9 rfl rfl)
theorem dX0_refusal_12 : decode cX0_refusal 12 = .ok (.astore_n 3, 1) := dk_78 (dk_at dksX0_refusal_0 12 rfl rfl)
theorem dX0_refusal_13 : decode cX0_refusal 13 = .ok (.iconst 1, 1) := dk_4 (dk_at dksX0_refusal_0 13 rfl rfl)
theorem dX0_refusal_14 : decode cX0_refusal 14 = .ok (.ireturn, 1) := dk_172 (dk_at dksX0_refusal_0 14 rfl rfl)
theorem dX0_refusal_15 : decode cX0_refusal 15 = .ok (.iconst 0, 1) := dk_3 (dk_at dksX0_refusal_0 15 rfl rfl)
theorem dX0_refusal_16 : decode cX0_refusal 16 = .ok (.ireturn, 1) := dk_172 (dk_at dksX0_refusal_0 16 rfl rfl)
abbrev cX0_account : ByteArray := method_24_code
def yX0_account : MethodName := ⟨RX0, "account", "(LMatchmakerRules;I[J)I"⟩
def dkwX0_account_0 : List UInt8 := [44, 3, 42, 27, 182, 0, 91, 133, 80, 167, 0, 6, 78, 4, 172, 3, 172]
abbrev dktX0_account_0 : List UInt8 := dkwX0_account_0 ++ []
theorem dksX0_account_0 : cX0_account.data.toList.drop 0 = dktX0_account_0 := by decide +kernel
theorem dX0_account_0 : decode cX0_account 0 = .ok (.aload_n 2, 1) := dk_44 (dk_at dksX0_account_0 0 rfl rfl)
theorem dX0_account_1 : decode cX0_account 1 = .ok (.iconst 0, 1) := dk_3 (dk_at dksX0_account_0 1 rfl rfl)
theorem dX0_account_2 : decode cX0_account 2 = .ok (.aload_n 0, 1) := dk_42 (dk_at dksX0_account_0 2 rfl rfl)
theorem dX0_account_3 : decode cX0_account 3 = .ok (.iload_n 1, 1) := dk_27 (dk_at dksX0_account_0 3 rfl rfl)
theorem dX0_account_4 : decode cX0_account 4 = .ok (.invokevirtual 91, 3) := dk_182 0 91 (dk_at dksX0_account_0 4 rfl rfl)
theorem dX0_account_7 : decode cX0_account 7 = .ok (.i2l, 1) := dk_133 (dk_at dksX0_account_0 7 rfl rfl)
theorem dX0_account_8 : decode cX0_account 8 = .ok (.lastore, 1) := dk_80 (dk_at dksX0_account_0 8 rfl rfl)
theorem dX0_account_9 : decode cX0_account 9 = .ok (.goto 6, 3) := dk_167 0 6 (dk_at dksX0_account_0 9 rfl rfl)
theorem dX0_account_12 : decode cX0_account 12 = .ok (.astore_n 3, 1) := dk_78 (dk_at dksX0_account_0 12 rfl rfl)
theorem dX0_account_13 : decode cX0_account 13 = .ok (.iconst 1, 1) := dk_4 (dk_at dksX0_account_0 13 rfl rfl)
theorem dX0_account_14 : decode cX0_account 14 = .ok (.ireturn, 1) := dk_172 (dk_at dksX0_account_0 14 rfl rfl)
theorem dX0_account_15 : decode cX0_account 15 = .ok (.iconst 0, 1) := dk_3 (dk_at dksX0_account_0 15 rfl rfl)
theorem dX0_account_16 : decode cX0_account 16 = .ok (.ireturn, 1) := dk_172 (dk_at dksX0_account_0 16 rfl rfl)
abbrev cX0_meanTrust : ByteArray := method_25_code
def yX0_meanTrust : MethodName := ⟨RX0, "meanTrust", "(LMatchmakerRules;[D)I"⟩
def dkwX0_meanTrust_0 : List UInt8 := [43, 3, 42, 182, 0, 94, 82, 167, 0, 6, 77, 4, 172, 3, 172]
abbrev dktX0_meanTrust_0 : List UInt8 := dkwX0_meanTrust_0 ++ []
theorem dksX0_meanTrust_0 : cX0_meanTrust.data.toList.drop 0 = dktX0_meanTrust_0 := by decide +kernel
theorem dX0_meanTrust_0 : decode cX0_meanTrust 0 = .ok (.aload_n 1, 1) := dk_43 (dk_at dksX0_meanTrust_0 0 rfl rfl)
theorem dX0_meanTrust_1 : decode cX0_meanTrust 1 = .ok (.iconst 0, 1) := dk_3 (dk_at dksX0_meanTrust_0 1 rfl rfl)
theorem dX0_meanTrust_2 : decode cX0_meanTrust 2 = .ok (.aload_n 0, 1) := dk_42 (dk_at dksX0_meanTrust_0 2 rfl rfl)
theorem dX0_meanTrust_3 : decode cX0_meanTrust 3 = .ok (.invokevirtual 94, 3) := dk_182 0 94 (dk_at dksX0_meanTrust_0 3 rfl rfl)
theorem dX0_meanTrust_6 : decode cX0_meanTrust 6 = .ok (.dastore, 1) := dk_82 (dk_at dksX0_meanTrust_0 6 rfl rfl)
theorem dX0_meanTrust_7 : decode cX0_meanTrust 7 = .ok (.goto 6, 3) := dk_167 0 6 (dk_at dksX0_meanTrust_0 7 rfl rfl)
theorem dX0_meanTrust_10 : decode cX0_meanTrust 10 = .ok (.astore_n 2, 1) := dk_77 (dk_at dksX0_meanTrust_0 10 rfl rfl)
theorem dX0_meanTrust_11 : decode cX0_meanTrust 11 = .ok (.iconst 1, 1) := dk_4 (dk_at dksX0_meanTrust_0 11 rfl rfl)
theorem dX0_meanTrust_12 : decode cX0_meanTrust 12 = .ok (.ireturn, 1) := dk_172 (dk_at dksX0_meanTrust_0 12 rfl rfl)
theorem dX0_meanTrust_13 : decode cX0_meanTrust 13 = .ok (.iconst 0, 1) := dk_3 (dk_at dksX0_meanTrust_0 13 rfl rfl)
theorem dX0_meanTrust_14 : decode cX0_meanTrust 14 = .ok (.ireturn, 1) := dk_172 (dk_at dksX0_meanTrust_0 14 rfl rfl)
abbrev cX0_store : ByteArray := method_26_code
def yX0_store : MethodName := ⟨RX0, "store", "(LMatchmakerRules;IZ[J)I"⟩
def dkwX0_store_0 : List UInt8 := [45, 3, 42, 27, 28, 182, 0, 100, 133, 80, 167, 0, 7, 58, 4, 4, 172, 3, 172]
abbrev dktX0_store_0 : List UInt8 := dkwX0_store_0 ++ []
theorem dksX0_store_0 : cX0_store.data.toList.drop 0 = dktX0_store_0 := by decide +kernel
theorem dX0_store_0 : decode cX0_store 0 = .ok (.aload_n 3, 1) := dk_45 (dk_at dksX0_store_0 0 rfl rfl)
theorem dX0_store_1 : decode cX0_store 1 = .ok (.iconst 0, 1) := dk_3 (dk_at dksX0_store_0 1 rfl rfl)
theorem dX0_store_2 : decode cX0_store 2 = .ok (.aload_n 0, 1) := dk_42 (dk_at dksX0_store_0 2 rfl rfl)
theorem dX0_store_3 : decode cX0_store 3 = .ok (.iload_n 1, 1) := dk_27 (dk_at dksX0_store_0 3 rfl rfl)
theorem dX0_store_4 : decode cX0_store 4 = .ok (.iload_n 2, 1) := dk_28 (dk_at dksX0_store_0 4 rfl rfl)
theorem dX0_store_5 : decode cX0_store 5 = .ok (.invokevirtual 100, 3) := dk_182 0 100 (dk_at dksX0_store_0 5 rfl rfl)
theorem dX0_store_8 : decode cX0_store 8 = .ok (.i2l, 1) := dk_133 (dk_at dksX0_store_0 8 rfl rfl)
theorem dX0_store_9 : decode cX0_store 9 = .ok (.lastore, 1) := dk_80 (dk_at dksX0_store_0 9 rfl rfl)
theorem dX0_store_10 : decode cX0_store 10 = .ok (.goto 7, 3) := dk_167 0 7 (dk_at dksX0_store_0 10 rfl rfl)
theorem dX0_store_13 : decode cX0_store 13 = .ok (.astore 4, 2) := dk_58 4 (dk_at dksX0_store_0 13 rfl rfl)
theorem dX0_store_15 : decode cX0_store 15 = .ok (.iconst 1, 1) := dk_4 (dk_at dksX0_store_0 15 rfl rfl)
theorem dX0_store_16 : decode cX0_store 16 = .ok (.ireturn, 1) := dk_172 (dk_at dksX0_store_0 16 rfl rfl)
theorem dX0_store_17 : decode cX0_store 17 = .ok (.iconst 0, 1) := dk_3 (dk_at dksX0_store_0 17 rfl rfl)
theorem dX0_store_18 : decode cX0_store 18 = .ok (.ireturn, 1) := dk_172 (dk_at dksX0_store_0 18 rfl rfl)
abbrev cX0_copyRow : ByteArray := method_27_code
def yX0_copyRow : MethodName := ⟨RX0, "copyRow", "(LMatchmakerRules;II[J)I"⟩
def dkwX0_copyRow_1 : List UInt8 := [172, 58, 4, 7, 172, 3, 172]
abbrev dktX0_copyRow_1 : List UInt8 := dkwX0_copyRow_1 ++ []
def dkwX0_copyRow_0 : List UInt8 := [45, 3, 42, 27, 28, 182, 0, 104, 133, 80, 167, 0, 19, 58, 4, 4, 172, 58, 4, 5, 172, 58, 4, 6]
abbrev dktX0_copyRow_0 : List UInt8 := dkwX0_copyRow_0 ++ dktX0_copyRow_1
theorem dksX0_copyRow_0 : cX0_copyRow.data.toList.drop 0 = dktX0_copyRow_0 := by decide +kernel
theorem dksX0_copyRow_1 : cX0_copyRow.data.toList.drop 24 = dktX0_copyRow_1 := dk_seg dksX0_copyRow_0 24 rfl rfl
theorem dX0_copyRow_0 : decode cX0_copyRow 0 = .ok (.aload_n 3, 1) := dk_45 (dk_at dksX0_copyRow_0 0 rfl rfl)
theorem dX0_copyRow_1 : decode cX0_copyRow 1 = .ok (.iconst 0, 1) := dk_3 (dk_at dksX0_copyRow_0 1 rfl rfl)
theorem dX0_copyRow_2 : decode cX0_copyRow 2 = .ok (.aload_n 0, 1) := dk_42 (dk_at dksX0_copyRow_0 2 rfl rfl)
theorem dX0_copyRow_3 : decode cX0_copyRow 3 = .ok (.iload_n 1, 1) := dk_27 (dk_at dksX0_copyRow_0 3 rfl rfl)
theorem dX0_copyRow_4 : decode cX0_copyRow 4 = .ok (.iload_n 2, 1) := dk_28 (dk_at dksX0_copyRow_0 4 rfl rfl)
theorem dX0_copyRow_5 : decode cX0_copyRow 5 = .ok (.invokevirtual 104, 3) := dk_182 0 104 (dk_at dksX0_copyRow_0 5 rfl rfl)
theorem dX0_copyRow_8 : decode cX0_copyRow 8 = .ok (.i2l, 1) := dk_133 (dk_at dksX0_copyRow_0 8 rfl rfl)
theorem dX0_copyRow_9 : decode cX0_copyRow 9 = .ok (.lastore, 1) := dk_80 (dk_at dksX0_copyRow_0 9 rfl rfl)
theorem dX0_copyRow_10 : decode cX0_copyRow 10 = .ok (.goto 19, 3) := dk_167 0 19 (dk_at dksX0_copyRow_0 10 rfl rfl)
theorem dX0_copyRow_13 : decode cX0_copyRow 13 = .ok (.astore 4, 2) := dk_58 4 (dk_at dksX0_copyRow_0 13 rfl rfl)
theorem dX0_copyRow_15 : decode cX0_copyRow 15 = .ok (.iconst 1, 1) := dk_4 (dk_at dksX0_copyRow_0 15 rfl rfl)
theorem dX0_copyRow_16 : decode cX0_copyRow 16 = .ok (.ireturn, 1) := dk_172 (dk_at dksX0_copyRow_0 16 rfl rfl)
theorem dX0_copyRow_17 : decode cX0_copyRow 17 = .ok (.astore 4, 2) := dk_58 4 (dk_at dksX0_copyRow_0 17 rfl rfl)
theorem dX0_copyRow_19 : decode cX0_copyRow 19 = .ok (.iconst 2, 1) := dk_5 (dk_at dksX0_copyRow_0 19 rfl rfl)
theorem dX0_copyRow_20 : decode cX0_copyRow 20 = .ok (.ireturn, 1) := dk_172 (dk_at dksX0_copyRow_0 20 rfl rfl)
theorem dX0_copyRow_21 : decode cX0_copyRow 21 = .ok (.astore 4, 2) := dk_58 4 (dk_at dksX0_copyRow_0 21 rfl rfl)
theorem dX0_copyRow_23 : decode cX0_copyRow 23 = .ok (.iconst 3, 1) := dk_6 (dk_at dksX0_copyRow_0 23 rfl rfl)
theorem dX0_copyRow_24 : decode cX0_copyRow 24 = .ok (.ireturn, 1) := dk_172 (dk_at dksX0_copyRow_1 0 rfl rfl)
theorem dX0_copyRow_25 : decode cX0_copyRow 25 = .ok (.astore 4, 2) := dk_58 4 (dk_at dksX0_copyRow_1 1 rfl rfl)
theorem dX0_copyRow_27 : decode cX0_copyRow 27 = .ok (.iconst 4, 1) := dk_7 (dk_at dksX0_copyRow_1 3 rfl rfl)
theorem dX0_copyRow_28 : decode cX0_copyRow 28 = .ok (.ireturn, 1) := dk_172 (dk_at dksX0_copyRow_1 4 rfl rfl)
theorem dX0_copyRow_29 : decode cX0_copyRow 29 = .ok (.iconst 0, 1) := dk_3 (dk_at dksX0_copyRow_1 5 rfl rfl)
theorem dX0_copyRow_30 : decode cX0_copyRow 30 = .ok (.ireturn, 1) := dk_172 (dk_at dksX0_copyRow_1 6 rfl rfl)
abbrev cX0_element : ByteArray := method_28_code
def yX0_element : MethodName := ⟨RX0, "element", "(LMatchmakerRules;II[J)I"⟩
def dkwX0_element_0 : List UInt8 := [45, 3, 42, 27, 28, 182, 0, 107, 133, 80, 167, 0, 11, 58, 4, 4, 172, 58, 4, 5, 172, 3, 172]
abbrev dktX0_element_0 : List UInt8 := dkwX0_element_0 ++ []
theorem dksX0_element_0 : cX0_element.data.toList.drop 0 = dktX0_element_0 := by decide +kernel
theorem dX0_element_0 : decode cX0_element 0 = .ok (.aload_n 3, 1) := dk_45 (dk_at dksX0_element_0 0 rfl rfl)
theorem dX0_element_1 : decode cX0_element 1 = .ok (.iconst 0, 1) := dk_3 (dk_at dksX0_element_0 1 rfl rfl)
theorem dX0_element_2 : decode cX0_element 2 = .ok (.aload_n 0, 1) := dk_42 (dk_at dksX0_element_0 2 rfl rfl)
theorem dX0_element_3 : decode cX0_element 3 = .ok (.iload_n 1, 1) := dk_27 (dk_at dksX0_element_0 3 rfl rfl)
theorem dX0_element_4 : decode cX0_element 4 = .ok (.iload_n 2, 1) := dk_28 (dk_at dksX0_element_0 4 rfl rfl)
theorem dX0_element_5 : decode cX0_element 5 = .ok (.invokevirtual 107, 3) := dk_182 0 107 (dk_at dksX0_element_0 5 rfl rfl)
theorem dX0_element_8 : decode cX0_element 8 = .ok (.i2l, 1) := dk_133 (dk_at dksX0_element_0 8 rfl rfl)
theorem dX0_element_9 : decode cX0_element 9 = .ok (.lastore, 1) := dk_80 (dk_at dksX0_element_0 9 rfl rfl)
theorem dX0_element_10 : decode cX0_element 10 = .ok (.goto 11, 3) := dk_167 0 11 (dk_at dksX0_element_0 10 rfl rfl)
theorem dX0_element_13 : decode cX0_element 13 = .ok (.astore 4, 2) := dk_58 4 (dk_at dksX0_element_0 13 rfl rfl)
theorem dX0_element_15 : decode cX0_element 15 = .ok (.iconst 1, 1) := dk_4 (dk_at dksX0_element_0 15 rfl rfl)
theorem dX0_element_16 : decode cX0_element 16 = .ok (.ireturn, 1) := dk_172 (dk_at dksX0_element_0 16 rfl rfl)
theorem dX0_element_17 : decode cX0_element 17 = .ok (.astore 4, 2) := dk_58 4 (dk_at dksX0_element_0 17 rfl rfl)
theorem dX0_element_19 : decode cX0_element 19 = .ok (.iconst 2, 1) := dk_5 (dk_at dksX0_element_0 19 rfl rfl)
theorem dX0_element_20 : decode cX0_element 20 = .ok (.ireturn, 1) := dk_172 (dk_at dksX0_element_0 20 rfl rfl)
theorem dX0_element_21 : decode cX0_element 21 = .ok (.iconst 0, 1) := dk_3 (dk_at dksX0_element_0 21 rfl rfl)
theorem dX0_element_22 : decode cX0_element 22 = .ok (.ireturn, 1) := dk_172 (dk_at dksX0_element_0 22 rfl rfl)
abbrev cX0_append : ByteArray := method_29_code
def yX0_append : MethodName := ⟨RX0, "append", "(LMatchmakerRules;I[J)I"⟩
def dkwX0_append_0 : List UInt8 := [44, 3, 42, 27, 182, 0, 110, 133, 80, 167, 0, 9, 78, 4, 172, 78, 5, 172, 3, 172]
abbrev dktX0_append_0 : List UInt8 := dkwX0_append_0 ++ []
theorem dksX0_append_0 : cX0_append.data.toList.drop 0 = dktX0_append_0 := by decide +kernel
theorem dX0_append_0 : decode cX0_append 0 = .ok (.aload_n 2, 1) := dk_44 (dk_at dksX0_append_0 0 rfl rfl)
theorem dX0_append_1 : decode cX0_append 1 = .ok (.iconst 0, 1) := dk_3 (dk_at dksX0_append_0 1 rfl rfl)
theorem dX0_append_2 : decode cX0_append 2 = .ok (.aload_n 0, 1) := dk_42 (dk_at dksX0_append_0 2 rfl rfl)
theorem dX0_append_3 : decode cX0_append 3 = .ok (.iload_n 1, 1) := dk_27 (dk_at dksX0_append_0 3 rfl rfl)
theorem dX0_append_4 : decode cX0_append 4 = .ok (.invokevirtual 110, 3) := dk_182 0 110 (dk_at dksX0_append_0 4 rfl rfl)
theorem dX0_append_7 : decode cX0_append 7 = .ok (.i2l, 1) := dk_133 (dk_at dksX0_append_0 7 rfl rfl)
theorem dX0_append_8 : decode cX0_append 8 = .ok (.lastore, 1) := dk_80 (dk_at dksX0_append_0 8 rfl rfl)
theorem dX0_append_9 : decode cX0_append 9 = .ok (.goto 9, 3) := dk_167 0 9 (dk_at dksX0_append_0 9 rfl rfl)
theorem dX0_append_12 : decode cX0_append 12 = .ok (.astore_n 3, 1) := dk_78 (dk_at dksX0_append_0 12 rfl rfl)
theorem dX0_append_13 : decode cX0_append 13 = .ok (.iconst 1, 1) := dk_4 (dk_at dksX0_append_0 13 rfl rfl)
theorem dX0_append_14 : decode cX0_append 14 = .ok (.ireturn, 1) := dk_172 (dk_at dksX0_append_0 14 rfl rfl)
theorem dX0_append_15 : decode cX0_append 15 = .ok (.astore_n 3, 1) := dk_78 (dk_at dksX0_append_0 15 rfl rfl)
theorem dX0_append_16 : decode cX0_append 16 = .ok (.iconst 2, 1) := dk_5 (dk_at dksX0_append_0 16 rfl rfl)
theorem dX0_append_17 : decode cX0_append 17 = .ok (.ireturn, 1) := dk_172 (dk_at dksX0_append_0 17 rfl rfl)
theorem dX0_append_18 : decode cX0_append 18 = .ok (.iconst 0, 1) := dk_3 (dk_at dksX0_append_0 18 rfl rfl)
theorem dX0_append_19 : decode cX0_append 19 = .ok (.ireturn, 1) := dk_172 (dk_at dksX0_append_0 19 rfl rfl)
abbrev cX0_read : ByteArray := method_30_code
def yX0_read : MethodName := ⟨RX0, "read", "(LMatchmakerRules;[J)I"⟩
def dkwX0_read_0 : List UInt8 := [43, 3, 42, 182, 0, 113, 133, 80, 167, 0, 9, 77, 4, 172, 77, 5, 172, 3, 172]
abbrev dktX0_read_0 : List UInt8 := dkwX0_read_0 ++ []
theorem dksX0_read_0 : cX0_read.data.toList.drop 0 = dktX0_read_0 := by decide +kernel
theorem dX0_read_0 : decode cX0_read 0 = .ok (.aload_n 1, 1) := dk_43 (dk_at dksX0_read_0 0 rfl rfl)
theorem dX0_read_1 : decode cX0_read 1 = .ok (.iconst 0, 1) := dk_3 (dk_at dksX0_read_0 1 rfl rfl)
theorem dX0_read_2 : decode cX0_read 2 = .ok (.aload_n 0, 1) := dk_42 (dk_at dksX0_read_0 2 rfl rfl)
theorem dX0_read_3 : decode cX0_read 3 = .ok (.invokevirtual 113, 3) := dk_182 0 113 (dk_at dksX0_read_0 3 rfl rfl)
theorem dX0_read_6 : decode cX0_read 6 = .ok (.i2l, 1) := dk_133 (dk_at dksX0_read_0 6 rfl rfl)
theorem dX0_read_7 : decode cX0_read 7 = .ok (.lastore, 1) := dk_80 (dk_at dksX0_read_0 7 rfl rfl)
theorem dX0_read_8 : decode cX0_read 8 = .ok (.goto 9, 3) := dk_167 0 9 (dk_at dksX0_read_0 8 rfl rfl)
theorem dX0_read_11 : decode cX0_read 11 = .ok (.astore_n 2, 1) := dk_77 (dk_at dksX0_read_0 11 rfl rfl)
theorem dX0_read_12 : decode cX0_read 12 = .ok (.iconst 1, 1) := dk_4 (dk_at dksX0_read_0 12 rfl rfl)
theorem dX0_read_13 : decode cX0_read 13 = .ok (.ireturn, 1) := dk_172 (dk_at dksX0_read_0 13 rfl rfl)
theorem dX0_read_14 : decode cX0_read 14 = .ok (.astore_n 2, 1) := dk_77 (dk_at dksX0_read_0 14 rfl rfl)
theorem dX0_read_15 : decode cX0_read 15 = .ok (.iconst 2, 1) := dk_5 (dk_at dksX0_read_0 15 rfl rfl)
theorem dX0_read_16 : decode cX0_read 16 = .ok (.ireturn, 1) := dk_172 (dk_at dksX0_read_0 16 rfl rfl)
theorem dX0_read_17 : decode cX0_read 17 = .ok (.iconst 0, 1) := dk_3 (dk_at dksX0_read_0 17 rfl rfl)
theorem dX0_read_18 : decode cX0_read 18 = .ok (.ireturn, 1) := dk_172 (dk_at dksX0_read_0 18 rfl rfl)
abbrev cX0_errorPosition : ByteArray := method_31_code
def yX0_errorPosition : MethodName := ⟨RX0, "errorPosition", "(LMatchmakerRules;[J)I"⟩
def dkwX0_errorPosition_0 : List UInt8 := [43, 3, 42, 182, 0, 116, 133, 80, 167, 0, 6, 77, 4, 172, 3, 172]
abbrev dktX0_errorPosition_0 : List UInt8 := dkwX0_errorPosition_0 ++ []
theorem dksX0_errorPosition_0 : cX0_errorPosition.data.toList.drop 0 = dktX0_errorPosition_0 := by decide +kernel
theorem dX0_errorPosition_0 : decode cX0_errorPosition 0 = .ok (.aload_n 1, 1) := dk_43 (dk_at dksX0_errorPosition_0 0 rfl rfl)
theorem dX0_errorPosition_1 : decode cX0_errorPosition 1 = .ok (.iconst 0, 1) := dk_3 (dk_at dksX0_errorPosition_0 1 rfl rfl)
theorem dX0_errorPosition_2 : decode cX0_errorPosition 2 = .ok (.aload_n 0, 1) := dk_42 (dk_at dksX0_errorPosition_0 2 rfl rfl)
theorem dX0_errorPosition_3 : decode cX0_errorPosition 3 = .ok (.invokevirtual 116, 3) := dk_182 0 116 (dk_at dksX0_errorPosition_0 3 rfl rfl)
theorem dX0_errorPosition_6 : decode cX0_errorPosition 6 = .ok (.i2l, 1) := dk_133 (dk_at dksX0_errorPosition_0 6 rfl rfl)
theorem dX0_errorPosition_7 : decode cX0_errorPosition 7 = .ok (.lastore, 1) := dk_80 (dk_at dksX0_errorPosition_0 7 rfl rfl)
theorem dX0_errorPosition_8 : decode cX0_errorPosition 8 = .ok (.goto 6, 3) := dk_167 0 6 (dk_at dksX0_errorPosition_0 8 rfl rfl)
theorem dX0_errorPosition_11 : decode cX0_errorPosition 11 = .ok (.astore_n 2, 1) := dk_77 (dk_at dksX0_errorPosition_0 11 rfl rfl)
theorem dX0_errorPosition_12 : decode cX0_errorPosition 12 = .ok (.iconst 1, 1) := dk_4 (dk_at dksX0_errorPosition_0 12 rfl rfl)
theorem dX0_errorPosition_13 : decode cX0_errorPosition 13 = .ok (.ireturn, 1) := dk_172 (dk_at dksX0_errorPosition_0 13 rfl rfl)
theorem dX0_errorPosition_14 : decode cX0_errorPosition 14 = .ok (.iconst 0, 1) := dk_3 (dk_at dksX0_errorPosition_0 14 rfl rfl)
theorem dX0_errorPosition_15 : decode cX0_errorPosition 15 = .ok (.ireturn, 1) := dk_172 (dk_at dksX0_errorPosition_0 15 rfl rfl)
abbrev cX0_refusedItem : ByteArray := method_32_code
def yX0_refusedItem : MethodName := ⟨RX0, "refusedItem", "(LMatchmakerRules;[J)I"⟩
def dkwX0_refusedItem_0 : List UInt8 := [43, 3, 42, 182, 0, 119, 133, 80, 167, 0, 6, 77, 4, 172, 3, 172]
abbrev dktX0_refusedItem_0 : List UInt8 := dkwX0_refusedItem_0 ++ []
theorem dksX0_refusedItem_0 : cX0_refusedItem.data.toList.drop 0 = dktX0_refusedItem_0 := by decide +kernel
theorem dX0_refusedItem_0 : decode cX0_refusedItem 0 = .ok (.aload_n 1, 1) := dk_43 (dk_at dksX0_refusedItem_0 0 rfl rfl)
theorem dX0_refusedItem_1 : decode cX0_refusedItem 1 = .ok (.iconst 0, 1) := dk_3 (dk_at dksX0_refusedItem_0 1 rfl rfl)
theorem dX0_refusedItem_2 : decode cX0_refusedItem 2 = .ok (.aload_n 0, 1) := dk_42 (dk_at dksX0_refusedItem_0 2 rfl rfl)
theorem dX0_refusedItem_3 : decode cX0_refusedItem 3 = .ok (.invokevirtual 119, 3) := dk_182 0 119 (dk_at dksX0_refusedItem_0 3 rfl rfl)
theorem dX0_refusedItem_6 : decode cX0_refusedItem 6 = .ok (.i2l, 1) := dk_133 (dk_at dksX0_refusedItem_0 6 rfl rfl)
theorem dX0_refusedItem_7 : decode cX0_refusedItem 7 = .ok (.lastore, 1) := dk_80 (dk_at dksX0_refusedItem_0 7 rfl rfl)
theorem dX0_refusedItem_8 : decode cX0_refusedItem 8 = .ok (.goto 6, 3) := dk_167 0 6 (dk_at dksX0_refusedItem_0 8 rfl rfl)
theorem dX0_refusedItem_11 : decode cX0_refusedItem 11 = .ok (.astore_n 2, 1) := dk_77 (dk_at dksX0_refusedItem_0 11 rfl rfl)
theorem dX0_refusedItem_12 : decode cX0_refusedItem 12 = .ok (.iconst 1, 1) := dk_4 (dk_at dksX0_refusedItem_0 12 rfl rfl)
theorem dX0_refusedItem_13 : decode cX0_refusedItem 13 = .ok (.ireturn, 1) := dk_172 (dk_at dksX0_refusedItem_0 13 rfl rfl)
theorem dX0_refusedItem_14 : decode cX0_refusedItem 14 = .ok (.iconst 0, 1) := dk_3 (dk_at dksX0_refusedItem_0 14 rfl rfl)
theorem dX0_refusedItem_15 : decode cX0_refusedItem 15 = .ok (.ireturn, 1) := dk_172 (dk_at dksX0_refusedItem_0 15 rfl rfl)
abbrev cX0_undo : ByteArray := method_33_code
def yX0_undo : MethodName := ⟨RX0, "undo", "(LMatchmakerRules;[J)I"⟩
def dkwX0_undo_0 : List UInt8 := [43, 3, 42, 182, 0, 122, 133, 80, 167, 0, 6, 77, 4, 172, 3, 172]
abbrev dktX0_undo_0 : List UInt8 := dkwX0_undo_0 ++ []
theorem dksX0_undo_0 : cX0_undo.data.toList.drop 0 = dktX0_undo_0 := by decide +kernel
theorem dX0_undo_0 : decode cX0_undo 0 = .ok (.aload_n 1, 1) := dk_43 (dk_at dksX0_undo_0 0 rfl rfl)
theorem dX0_undo_1 : decode cX0_undo 1 = .ok (.iconst 0, 1) := dk_3 (dk_at dksX0_undo_0 1 rfl rfl)
theorem dX0_undo_2 : decode cX0_undo 2 = .ok (.aload_n 0, 1) := dk_42 (dk_at dksX0_undo_0 2 rfl rfl)
theorem dX0_undo_3 : decode cX0_undo 3 = .ok (.invokevirtual 122, 3) := dk_182 0 122 (dk_at dksX0_undo_0 3 rfl rfl)
theorem dX0_undo_6 : decode cX0_undo 6 = .ok (.i2l, 1) := dk_133 (dk_at dksX0_undo_0 6 rfl rfl)
theorem dX0_undo_7 : decode cX0_undo 7 = .ok (.lastore, 1) := dk_80 (dk_at dksX0_undo_0 7 rfl rfl)
theorem dX0_undo_8 : decode cX0_undo 8 = .ok (.goto 6, 3) := dk_167 0 6 (dk_at dksX0_undo_0 8 rfl rfl)
theorem dX0_undo_11 : decode cX0_undo 11 = .ok (.astore_n 2, 1) := dk_77 (dk_at dksX0_undo_0 11 rfl rfl)
theorem dX0_undo_12 : decode cX0_undo 12 = .ok (.iconst 1, 1) := dk_4 (dk_at dksX0_undo_0 12 rfl rfl)
theorem dX0_undo_13 : decode cX0_undo 13 = .ok (.ireturn, 1) := dk_172 (dk_at dksX0_undo_0 13 rfl rfl)
theorem dX0_undo_14 : decode cX0_undo 14 = .ok (.iconst 0, 1) := dk_3 (dk_at dksX0_undo_0 14 rfl rfl)
theorem dX0_undo_15 : decode cX0_undo 15 = .ok (.ireturn, 1) := dk_172 (dk_at dksX0_undo_0 15 rfl rfl)
abbrev cX0_restore : ByteArray := method_34_code
def yX0_restore : MethodName := ⟨RX0, "restore", "(LMatchmakerRules;[J)I"⟩
def dkwX0_restore_0 : List UInt8 := [43, 3, 42, 182, 0, 125, 133, 80, 167, 0, 6, 77, 4, 172, 3, 172]
abbrev dktX0_restore_0 : List UInt8 := dkwX0_restore_0 ++ []
theorem dksX0_restore_0 : cX0_restore.data.toList.drop 0 = dktX0_restore_0 := by decide +kernel
theorem dX0_restore_0 : decode cX0_restore 0 = .ok (.aload_n 1, 1) := dk_43 (dk_at dksX0_restore_0 0 rfl rfl)
theorem dX0_restore_1 : decode cX0_restore 1 = .ok (.iconst 0, 1) := dk_3 (dk_at dksX0_restore_0 1 rfl rfl)
theorem dX0_restore_2 : decode cX0_restore 2 = .ok (.aload_n 0, 1) := dk_42 (dk_at dksX0_restore_0 2 rfl rfl)
theorem dX0_restore_3 : decode cX0_restore 3 = .ok (.invokevirtual 125, 3) := dk_182 0 125 (dk_at dksX0_restore_0 3 rfl rfl)
theorem dX0_restore_6 : decode cX0_restore 6 = .ok (.i2l, 1) := dk_133 (dk_at dksX0_restore_0 6 rfl rfl)
theorem dX0_restore_7 : decode cX0_restore 7 = .ok (.lastore, 1) := dk_80 (dk_at dksX0_restore_0 7 rfl rfl)
theorem dX0_restore_8 : decode cX0_restore 8 = .ok (.goto 6, 3) := dk_167 0 6 (dk_at dksX0_restore_0 8 rfl rfl)
theorem dX0_restore_11 : decode cX0_restore 11 = .ok (.astore_n 2, 1) := dk_77 (dk_at dksX0_restore_0 11 rfl rfl)
theorem dX0_restore_12 : decode cX0_restore 12 = .ok (.iconst 1, 1) := dk_4 (dk_at dksX0_restore_0 12 rfl rfl)
theorem dX0_restore_13 : decode cX0_restore 13 = .ok (.ireturn, 1) := dk_172 (dk_at dksX0_restore_0 13 rfl rfl)
theorem dX0_restore_14 : decode cX0_restore 14 = .ok (.iconst 0, 1) := dk_3 (dk_at dksX0_restore_0 14 rfl rfl)
theorem dX0_restore_15 : decode cX0_restore 15 = .ok (.ireturn, 1) := dk_172 (dk_at dksX0_restore_0 15 rfl rfl)
theorem q96 : (Jvm.Cond.initialized "MatchmakerRulesLaw") ∈ lw_all := lw_g (lw_at lw_m1 0 rfl) rfl
theorem q140 : (Jvm.Cond.classLink "MatchmakerRulesLaw" (8 : Nat) "MatchmakerRules") ∈ lw_all := lw_g (lw_at lw_m1 44 rfl) rfl
theorem q142 : (Jvm.Cond.methodLink "MatchmakerRulesLaw" (128 : Nat) ({ cls := "MatchmakerRules", name := "<init>", desc := "()V" } : Jvm.MethodName)) ∈ lw_all := lw_g (lw_at lw_m1 46 rfl) rfl
theorem q328 : (Jvm.Cond.methodLink "MatchmakerRulesLaw" (132 : Nat) ({ cls := "MatchmakerRules", name := "clear", desc := "()I" } : Jvm.MethodName)) ∈ lw_all := lw_g (lw_at lw_m1 232 rfl) rfl
theorem q343 : (Jvm.Cond.methodLink "MatchmakerRulesLaw" (177 : Nat) ({ cls := "MatchmakerRules", name := "due", desc := "(Z)I" } : Jvm.MethodName)) ∈ lw_all := lw_g (lw_at lw_m2 7 rfl) rfl
theorem q544 : (Jvm.Cond.methodLink "MatchmakerRulesLaw" (203 : Nat) ({ cls := "MatchmakerRules", name := "isInOrder", desc := "()Z" } : Jvm.MethodName)) ∈ lw_all := lw_g (lw_at lw_m2 208 rfl) rfl
theorem q645 : (Jvm.Cond.methodLink "MatchmakerRulesLaw" (253 : Nat) ({ cls := "MatchmakerRules", name := "snapshot", desc := "()I" } : Jvm.MethodName)) ∈ lw_all := lw_g (lw_at lw_m3 69 rfl) rfl
theorem q649 : (Jvm.Cond.methodLink "MatchmakerRulesLaw" (136 : Nat) ({ cls := "MatchmakerRulesLaw", name := "rule", desc := "(LMatchmakerRules;[J)I" } : Jvm.MethodName)) ∈ lw_all := lw_g (lw_at lw_m3 73 rfl) rfl
theorem q650 : (Jvm.Cond.static ({ cls := "MatchmakerRulesLaw", name := "rule", desc := "(LMatchmakerRules;[J)I" } : Jvm.MethodName)) ∈ lw_all := lw_g (lw_at lw_m3 74 rfl) rfl
theorem q651 : (Jvm.Cond.codeWith ({ cls := "MatchmakerRulesLaw", name := "rule", desc := "(LMatchmakerRules;[J)I" } : Jvm.MethodName) method_3_code (3 : Nat) (Option.some Jvm.ClassFile.FieldType.int) [((0 : Nat), (8 : Nat), (11 : Nat), (13 : Nat)), ((0 : Nat), (8 : Nat), (14 : Nat), (15 : Nat))]) ∈ lw_all := lw_g (lw_at lw_m3 75 rfl) rfl
theorem q652 : (Jvm.Cond.classLink "MatchmakerRulesLaw" (13 : Nat) "java/lang/IllegalArgumentException") ∈ lw_all := lw_g (lw_at lw_m3 76 rfl) rfl
theorem q653 : (Jvm.Cond.classLink "MatchmakerRulesLaw" (15 : Nat) "java/lang/UnsupportedOperationException") ∈ lw_all := lw_g (lw_at lw_m3 77 rfl) rfl
theorem q654 : (Jvm.Cond.methodLink "MatchmakerRulesLaw" (7 : Nat) ({ cls := "MatchmakerRules", name := "rule", desc := "()I" } : Jvm.MethodName)) ∈ lw_all := lw_g (lw_at lw_m3 78 rfl) rfl
theorem q1310 : (Jvm.Cond.methodLink "MatchmakerRulesLaw" (145 : Nat) ({ cls := "MatchmakerRulesLaw", name := "drop", desc := "(LMatchmakerRules;I[J)I" } : Jvm.MethodName)) ∈ lw_all := lw_g (lw_at lw_m6 14 rfl) rfl
theorem q1311 : (Jvm.Cond.static ({ cls := "MatchmakerRulesLaw", name := "drop", desc := "(LMatchmakerRules;I[J)I" } : Jvm.MethodName)) ∈ lw_all := lw_g (lw_at lw_m6 15 rfl) rfl
theorem q1312 : (Jvm.Cond.codeWith ({ cls := "MatchmakerRulesLaw", name := "drop", desc := "(LMatchmakerRules;I[J)I" } : Jvm.MethodName) method_4_code (4 : Nat) (Option.some Jvm.ClassFile.FieldType.int) [((0 : Nat), (9 : Nat), (12 : Nat), (15 : Nat))]) ∈ lw_all := lw_g (lw_at lw_m6 16 rfl) rfl
theorem q1313 : (Jvm.Cond.methodLink "MatchmakerRulesLaw" (17 : Nat) ({ cls := "MatchmakerRules", name := "drop", desc := "(I)I" } : Jvm.MethodName)) ∈ lw_all := lw_g (lw_at lw_m6 17 rfl) rfl
theorem q1320 : (Jvm.Cond.methodLink "MatchmakerRulesLaw" (149 : Nat) ({ cls := "MatchmakerRulesLaw", name := "tell", desc := "(LMatchmakerRules;CIII[J)I" } : Jvm.MethodName)) ∈ lw_all := lw_g (lw_at lw_m6 24 rfl) rfl
theorem q1321 : (Jvm.Cond.static ({ cls := "MatchmakerRulesLaw", name := "tell", desc := "(LMatchmakerRules;CIII[J)I" } : Jvm.MethodName)) ∈ lw_all := lw_g (lw_at lw_m6 25 rfl) rfl
theorem q1322 : (Jvm.Cond.codeWith ({ cls := "MatchmakerRulesLaw", name := "tell", desc := "(LMatchmakerRules;CIII[J)I" } : Jvm.MethodName) method_5_code (7 : Nat) (Option.some Jvm.ClassFile.FieldType.int) [((0 : Nat), (14 : Nat), (17 : Nat), (13 : Nat)), ((0 : Nat), (14 : Nat), (21 : Nat), (15 : Nat))]) ∈ lw_all := lw_g (lw_at lw_m6 26 rfl) rfl
theorem q1323 : (Jvm.Cond.methodLink "MatchmakerRulesLaw" (21 : Nat) ({ cls := "MatchmakerRules", name := "tell", desc := "(CIII)I" } : Jvm.MethodName)) ∈ lw_all := lw_g (lw_at lw_m6 27 rfl) rfl
theorem q1327 : (Jvm.Cond.methodLink "MatchmakerRulesLaw" (153 : Nat) ({ cls := "MatchmakerRulesLaw", name := "untell", desc := "(LMatchmakerRules;I[J)I" } : Jvm.MethodName)) ∈ lw_all := lw_g (lw_at lw_m6 31 rfl) rfl
theorem q1328 : (Jvm.Cond.static ({ cls := "MatchmakerRulesLaw", name := "untell", desc := "(LMatchmakerRules;I[J)I" } : Jvm.MethodName)) ∈ lw_all := lw_g (lw_at lw_m6 32 rfl) rfl
theorem q1329 : (Jvm.Cond.codeWith ({ cls := "MatchmakerRulesLaw", name := "untell", desc := "(LMatchmakerRules;I[J)I" } : Jvm.MethodName) method_6_code (4 : Nat) (Option.some Jvm.ClassFile.FieldType.int) [((0 : Nat), (9 : Nat), (12 : Nat), (15 : Nat))]) ∈ lw_all := lw_g (lw_at lw_m6 33 rfl) rfl
theorem q1330 : (Jvm.Cond.methodLink "MatchmakerRulesLaw" (25 : Nat) ({ cls := "MatchmakerRules", name := "untell", desc := "(I)I" } : Jvm.MethodName)) ∈ lw_all := lw_g (lw_at lw_m6 34 rfl) rfl
theorem q1334 : (Jvm.Cond.methodLink "MatchmakerRulesLaw" (156 : Nat) ({ cls := "MatchmakerRulesLaw", name := "find", desc := "(LMatchmakerRules;CII[J)I" } : Jvm.MethodName)) ∈ lw_all := lw_g (lw_at lw_m6 38 rfl) rfl
theorem q1335 : (Jvm.Cond.static ({ cls := "MatchmakerRulesLaw", name := "find", desc := "(LMatchmakerRules;CII[J)I" } : Jvm.MethodName)) ∈ lw_all := lw_g (lw_at lw_m6 39 rfl) rfl
theorem q1336 : (Jvm.Cond.codeWith ({ cls := "MatchmakerRulesLaw", name := "find", desc := "(LMatchmakerRules;CII[J)I" } : Jvm.MethodName) method_7_code (6 : Nat) (Option.some Jvm.ClassFile.FieldType.int) [((0 : Nat), (12 : Nat), (15 : Nat), (32 : Nat))]) ∈ lw_all := lw_g (lw_at lw_m6 40 rfl) rfl
theorem q1337 : (Jvm.Cond.classLink "MatchmakerRulesLaw" (32 : Nat) "java/util/NoSuchElementException") ∈ lw_all := lw_g (lw_at lw_m6 41 rfl) rfl
theorem q1338 : (Jvm.Cond.methodLink "MatchmakerRulesLaw" (28 : Nat) ({ cls := "MatchmakerRules", name := "find", desc := "(CII)I" } : Jvm.MethodName)) ∈ lw_all := lw_g (lw_at lw_m6 42 rfl) rfl
theorem q1351 : (Jvm.Cond.methodLink "MatchmakerRulesLaw" (160 : Nat) ({ cls := "MatchmakerRulesLaw", name := "factAt", desc := "(LMatchmakerRules;I[J)I" } : Jvm.MethodName)) ∈ lw_all := lw_g (lw_at lw_m6 55 rfl) rfl
theorem q1352 : (Jvm.Cond.static ({ cls := "MatchmakerRulesLaw", name := "factAt", desc := "(LMatchmakerRules;I[J)I" } : Jvm.MethodName)) ∈ lw_all := lw_g (lw_at lw_m6 56 rfl) rfl
theorem q1353 : (Jvm.Cond.codeWith ({ cls := "MatchmakerRulesLaw", name := "factAt", desc := "(LMatchmakerRules;I[J)I" } : Jvm.MethodName) method_8_code (4 : Nat) (Option.some Jvm.ClassFile.FieldType.int) [((0 : Nat), (9 : Nat), (12 : Nat), (32 : Nat))]) ∈ lw_all := lw_g (lw_at lw_m6 57 rfl) rfl
theorem q1354 : (Jvm.Cond.methodLink "MatchmakerRulesLaw" (34 : Nat) ({ cls := "MatchmakerRules", name := "factAt", desc := "(I)I" } : Jvm.MethodName)) ∈ lw_all := lw_g (lw_at lw_m6 58 rfl) rfl
theorem q1361 : (Jvm.Cond.methodLink "MatchmakerRulesLaw" (163 : Nat) ({ cls := "MatchmakerRulesLaw", name := "factOf", desc := "(LMatchmakerRules;II[J)I" } : Jvm.MethodName)) ∈ lw_all := lw_g (lw_at lw_m6 65 rfl) rfl
theorem q1362 : (Jvm.Cond.static ({ cls := "MatchmakerRulesLaw", name := "factOf", desc := "(LMatchmakerRules;II[J)I" } : Jvm.MethodName)) ∈ lw_all := lw_g (lw_at lw_m6 66 rfl) rfl
theorem q1363 : (Jvm.Cond.codeWith ({ cls := "MatchmakerRulesLaw", name := "factOf", desc := "(LMatchmakerRules;II[J)I" } : Jvm.MethodName) method_9_code (5 : Nat) (Option.some Jvm.ClassFile.FieldType.int) [((0 : Nat), (10 : Nat), (13 : Nat), (32 : Nat)), ((0 : Nat), (10 : Nat), (17 : Nat), (13 : Nat))]) ∈ lw_all := lw_g (lw_at lw_m6 67 rfl) rfl
theorem q1364 : (Jvm.Cond.methodLink "MatchmakerRulesLaw" (37 : Nat) ({ cls := "MatchmakerRules", name := "factOf", desc := "(II)I" } : Jvm.MethodName)) ∈ lw_all := lw_g (lw_at lw_m6 68 rfl) rfl
theorem q1383 : (Jvm.Cond.methodLink "MatchmakerRulesLaw" (167 : Nat) ({ cls := "MatchmakerRulesLaw", name := "trust", desc := "(LMatchmakerRules;I[D)I" } : Jvm.MethodName)) ∈ lw_all := lw_g (lw_at lw_m6 87 rfl) rfl
theorem q1384 : (Jvm.Cond.static ({ cls := "MatchmakerRulesLaw", name := "trust", desc := "(LMatchmakerRules;I[D)I" } : Jvm.MethodName)) ∈ lw_all := lw_g (lw_at lw_m6 88 rfl) rfl
theorem q1385 : (Jvm.Cond.codeWith ({ cls := "MatchmakerRulesLaw", name := "trust", desc := "(LMatchmakerRules;I[D)I" } : Jvm.MethodName) method_10_code (4 : Nat) (Option.some Jvm.ClassFile.FieldType.int) [((0 : Nat), (9 : Nat), (12 : Nat), (32 : Nat))]) ∈ lw_all := lw_g (lw_at lw_m6 89 rfl) rfl
theorem q1386 : (Jvm.Cond.methodLink "MatchmakerRulesLaw" (41 : Nat) ({ cls := "MatchmakerRules", name := "trust", desc := "(I)F" } : Jvm.MethodName)) ∈ lw_all := lw_g (lw_at lw_m6 90 rfl) rfl
theorem q1390 : (Jvm.Cond.methodLink "MatchmakerRulesLaw" (171 : Nat) ({ cls := "MatchmakerRulesLaw", name := "trustBits", desc := "(LMatchmakerRules;I[J)I" } : Jvm.MethodName)) ∈ lw_all := lw_g (lw_at lw_m6 94 rfl) rfl
theorem q1391 : (Jvm.Cond.static ({ cls := "MatchmakerRulesLaw", name := "trustBits", desc := "(LMatchmakerRules;I[J)I" } : Jvm.MethodName)) ∈ lw_all := lw_g (lw_at lw_m6 95 rfl) rfl
theorem q1392 : (Jvm.Cond.codeWith ({ cls := "MatchmakerRulesLaw", name := "trustBits", desc := "(LMatchmakerRules;I[J)I" } : Jvm.MethodName) method_11_code (4 : Nat) (Option.some Jvm.ClassFile.FieldType.int) [((0 : Nat), (9 : Nat), (12 : Nat), (32 : Nat))]) ∈ lw_all := lw_g (lw_at lw_m6 96 rfl) rfl
theorem q1393 : (Jvm.Cond.methodLink "MatchmakerRulesLaw" (45 : Nat) ({ cls := "MatchmakerRules", name := "trustBits", desc := "(I)I" } : Jvm.MethodName)) ∈ lw_all := lw_g (lw_at lw_m6 97 rfl) rfl
theorem q1407 : (Jvm.Cond.methodLink "MatchmakerRulesLaw" (174 : Nat) ({ cls := "MatchmakerRulesLaw", name := "trusted", desc := "(LMatchmakerRules;I[J)I" } : Jvm.MethodName)) ∈ lw_all := lw_g (lw_at lw_m6 111 rfl) rfl
theorem q1408 : (Jvm.Cond.static ({ cls := "MatchmakerRulesLaw", name := "trusted", desc := "(LMatchmakerRules;I[J)I" } : Jvm.MethodName)) ∈ lw_all := lw_g (lw_at lw_m6 112 rfl) rfl
theorem q1409 : (Jvm.Cond.codeWith ({ cls := "MatchmakerRulesLaw", name := "trusted", desc := "(LMatchmakerRules;I[J)I" } : Jvm.MethodName) method_12_code (4 : Nat) (Option.some Jvm.ClassFile.FieldType.int) [((0 : Nat), (9 : Nat), (12 : Nat), (32 : Nat))]) ∈ lw_all := lw_g (lw_at lw_m6 113 rfl) rfl
theorem q1410 : (Jvm.Cond.methodLink "MatchmakerRulesLaw" (48 : Nat) ({ cls := "MatchmakerRules", name := "trusted", desc := "(I)I" } : Jvm.MethodName)) ∈ lw_all := lw_g (lw_at lw_m6 114 rfl) rfl
theorem q1422 : (Jvm.Cond.methodLink "MatchmakerRulesLaw" (181 : Nat) ({ cls := "MatchmakerRulesLaw", name := "agenda", desc := "(LMatchmakerRules;II[J)I" } : Jvm.MethodName)) ∈ lw_all := lw_g (lw_at lw_m6 126 rfl) rfl
theorem q1423 : (Jvm.Cond.static ({ cls := "MatchmakerRulesLaw", name := "agenda", desc := "(LMatchmakerRules;II[J)I" } : Jvm.MethodName)) ∈ lw_all := lw_g (lw_at lw_m6 127 rfl) rfl
theorem q1424 : (Jvm.Cond.codeWith ({ cls := "MatchmakerRulesLaw", name := "agenda", desc := "(LMatchmakerRules;II[J)I" } : Jvm.MethodName) method_13_code (5 : Nat) (Option.some Jvm.ClassFile.FieldType.int) [((0 : Nat), (10 : Nat), (13 : Nat), (32 : Nat)), ((0 : Nat), (10 : Nat), (17 : Nat), (13 : Nat))]) ∈ lw_all := lw_g (lw_at lw_m6 128 rfl) rfl
theorem q1425 : (Jvm.Cond.methodLink "MatchmakerRulesLaw" (51 : Nat) ({ cls := "MatchmakerRules", name := "agenda", desc := "(II)I" } : Jvm.MethodName)) ∈ lw_all := lw_g (lw_at lw_m6 129 rfl) rfl
theorem q1439 : (Jvm.Cond.methodLink "MatchmakerRulesLaw" (184 : Nat) ({ cls := "MatchmakerRulesLaw", name := "matches", desc := "(LMatchmakerRules;I[J)I" } : Jvm.MethodName)) ∈ lw_all := lw_g (lw_at lw_m6 143 rfl) rfl
theorem q1440 : (Jvm.Cond.static ({ cls := "MatchmakerRulesLaw", name := "matches", desc := "(LMatchmakerRules;I[J)I" } : Jvm.MethodName)) ∈ lw_all := lw_g (lw_at lw_m6 144 rfl) rfl
theorem q1441 : (Jvm.Cond.codeWith ({ cls := "MatchmakerRulesLaw", name := "matches", desc := "(LMatchmakerRules;I[J)I" } : Jvm.MethodName) method_14_code (4 : Nat) (Option.some Jvm.ClassFile.FieldType.int) [((0 : Nat), (9 : Nat), (12 : Nat), (57 : Nat))]) ∈ lw_all := lw_g (lw_at lw_m6 145 rfl) rfl
theorem q1442 : (Jvm.Cond.classLink "MatchmakerRulesLaw" (57 : Nat) "java/lang/IndexOutOfBoundsException") ∈ lw_all := lw_g (lw_at lw_m6 146 rfl) rfl
theorem q1466 : (Jvm.Cond.methodLink "MatchmakerRulesLaw" (54 : Nat) ({ cls := "MatchmakerRules", name := "matches", desc := "(I)I" } : Jvm.MethodName)) ∈ lw_all := lw_g (lw_at lw_m6 170 rfl) rfl
theorem q1496 : (Jvm.Cond.methodLink "MatchmakerRulesLaw" (187 : Nat) ({ cls := "MatchmakerRulesLaw", name := "fire", desc := "(LMatchmakerRules;[J)I" } : Jvm.MethodName)) ∈ lw_all := lw_g (lw_at lw_m6 200 rfl) rfl
theorem q1497 : (Jvm.Cond.static ({ cls := "MatchmakerRulesLaw", name := "fire", desc := "(LMatchmakerRules;[J)I" } : Jvm.MethodName)) ∈ lw_all := lw_g (lw_at lw_m6 201 rfl) rfl
theorem q1498 : (Jvm.Cond.codeWith ({ cls := "MatchmakerRulesLaw", name := "fire", desc := "(LMatchmakerRules;[J)I" } : Jvm.MethodName) method_15_code (3 : Nat) (Option.some Jvm.ClassFile.FieldType.int) [((0 : Nat), (8 : Nat), (11 : Nat), (15 : Nat))]) ∈ lw_all := lw_g (lw_at lw_m6 202 rfl) rfl
theorem q1499 : (Jvm.Cond.methodLink "MatchmakerRulesLaw" (59 : Nat) ({ cls := "MatchmakerRules", name := "fire", desc := "()I" } : Jvm.MethodName)) ∈ lw_all := lw_g (lw_at lw_m6 203 rfl) rfl
theorem q1503 : (Jvm.Cond.methodLink "MatchmakerRulesLaw" (190 : Nat) ({ cls := "MatchmakerRulesLaw", name := "run", desc := "(LMatchmakerRules;I[J)I" } : Jvm.MethodName)) ∈ lw_all := lw_g (lw_at lw_m6 207 rfl) rfl
theorem q1504 : (Jvm.Cond.static ({ cls := "MatchmakerRulesLaw", name := "run", desc := "(LMatchmakerRules;I[J)I" } : Jvm.MethodName)) ∈ lw_all := lw_g (lw_at lw_m6 208 rfl) rfl
theorem q1505 : (Jvm.Cond.codeWith ({ cls := "MatchmakerRulesLaw", name := "run", desc := "(LMatchmakerRules;I[J)I" } : Jvm.MethodName) method_16_code (4 : Nat) (Option.some Jvm.ClassFile.FieldType.int) [((0 : Nat), (9 : Nat), (12 : Nat), (13 : Nat))]) ∈ lw_all := lw_g (lw_at lw_m6 209 rfl) rfl
theorem q1506 : (Jvm.Cond.methodLink "MatchmakerRulesLaw" (62 : Nat) ({ cls := "MatchmakerRules", name := "run", desc := "(I)I" } : Jvm.MethodName)) ∈ lw_all := lw_g (lw_at lw_m6 210 rfl) rfl
theorem q1510 : (Jvm.Cond.methodLink "MatchmakerRulesLaw" (193 : Nat) ({ cls := "MatchmakerRulesLaw", name := "quietIn", desc := "(LMatchmakerRules;[J)I" } : Jvm.MethodName)) ∈ lw_all := lw_g (lw_at lw_m6 214 rfl) rfl
theorem q1511 : (Jvm.Cond.static ({ cls := "MatchmakerRulesLaw", name := "quietIn", desc := "(LMatchmakerRules;[J)I" } : Jvm.MethodName)) ∈ lw_all := lw_g (lw_at lw_m6 215 rfl) rfl
theorem q1512 : (Jvm.Cond.codeWith ({ cls := "MatchmakerRulesLaw", name := "quietIn", desc := "(LMatchmakerRules;[J)I" } : Jvm.MethodName) method_17_code (3 : Nat) (Option.some Jvm.ClassFile.FieldType.int) [((0 : Nat), (8 : Nat), (11 : Nat), (32 : Nat))]) ∈ lw_all := lw_g (lw_at lw_m6 216 rfl) rfl
theorem q1513 : (Jvm.Cond.methodLink "MatchmakerRulesLaw" (65 : Nat) ({ cls := "MatchmakerRules", name := "quietIn", desc := "()I" } : Jvm.MethodName)) ∈ lw_all := lw_g (lw_at lw_m6 217 rfl) rfl
theorem q1522 : (Jvm.Cond.methodLink "MatchmakerRulesLaw" (196 : Nat) ({ cls := "MatchmakerRulesLaw", name := "why", desc := "(LMatchmakerRules;III[J)I" } : Jvm.MethodName)) ∈ lw_all := lw_g (lw_at lw_m6 226 rfl) rfl
theorem q1523 : (Jvm.Cond.static ({ cls := "MatchmakerRulesLaw", name := "why", desc := "(LMatchmakerRules;III[J)I" } : Jvm.MethodName)) ∈ lw_all := lw_g (lw_at lw_m6 227 rfl) rfl
theorem q1524 : (Jvm.Cond.codeWith ({ cls := "MatchmakerRulesLaw", name := "why", desc := "(LMatchmakerRules;III[J)I" } : Jvm.MethodName) method_18_code (6 : Nat) (Option.some Jvm.ClassFile.FieldType.int) [((0 : Nat), (12 : Nat), (15 : Nat), (32 : Nat)), ((0 : Nat), (12 : Nat), (19 : Nat), (13 : Nat))]) ∈ lw_all := lw_g (lw_at lw_m6 228 rfl) rfl
theorem q1525 : (Jvm.Cond.methodLink "MatchmakerRulesLaw" (68 : Nat) ({ cls := "MatchmakerRules", name := "why", desc := "(III)I" } : Jvm.MethodName)) ∈ lw_all := lw_g (lw_at lw_m6 229 rfl) rfl
theorem q1529 : (Jvm.Cond.methodLink "MatchmakerRulesLaw" (200 : Nat) ({ cls := "MatchmakerRulesLaw", name := "wouldGo", desc := "(LMatchmakerRules;I[J)I" } : Jvm.MethodName)) ∈ lw_all := lw_g (lw_at lw_m6 233 rfl) rfl
theorem q1530 : (Jvm.Cond.static ({ cls := "MatchmakerRulesLaw", name := "wouldGo", desc := "(LMatchmakerRules;I[J)I" } : Jvm.MethodName)) ∈ lw_all := lw_g (lw_at lw_m6 234 rfl) rfl
theorem q1531 : (Jvm.Cond.codeWith ({ cls := "MatchmakerRulesLaw", name := "wouldGo", desc := "(LMatchmakerRules;I[J)I" } : Jvm.MethodName) method_19_code (4 : Nat) (Option.some Jvm.ClassFile.FieldType.int) [((0 : Nat), (9 : Nat), (12 : Nat), (32 : Nat))]) ∈ lw_all := lw_g (lw_at lw_m6 235 rfl) rfl
theorem q1532 : (Jvm.Cond.methodLink "MatchmakerRulesLaw" (72 : Nat) ({ cls := "MatchmakerRules", name := "wouldGo", desc := "(I)I" } : Jvm.MethodName)) ∈ lw_all := lw_g (lw_at lw_m6 236 rfl) rfl
theorem q1541 : (Jvm.Cond.methodLink "MatchmakerRulesLaw" (208 : Nat) ({ cls := "MatchmakerRulesLaw", name := "line", desc := "(LMatchmakerRules;I[J)I" } : Jvm.MethodName)) ∈ lw_all := lw_g (lw_at lw_m7 5 rfl) rfl
theorem q1542 : (Jvm.Cond.static ({ cls := "MatchmakerRulesLaw", name := "line", desc := "(LMatchmakerRules;I[J)I" } : Jvm.MethodName)) ∈ lw_all := lw_g (lw_at lw_m7 6 rfl) rfl
theorem q1543 : (Jvm.Cond.codeWith ({ cls := "MatchmakerRulesLaw", name := "line", desc := "(LMatchmakerRules;I[J)I" } : Jvm.MethodName) method_20_code (4 : Nat) (Option.some Jvm.ClassFile.FieldType.int) [((0 : Nat), (9 : Nat), (12 : Nat), (57 : Nat))]) ∈ lw_all := lw_g (lw_at lw_m7 7 rfl) rfl
theorem q1544 : (Jvm.Cond.methodLink "MatchmakerRulesLaw" (75 : Nat) ({ cls := "MatchmakerRules", name := "line", desc := "(I)I" } : Jvm.MethodName)) ∈ lw_all := lw_g (lw_at lw_m7 8 rfl) rfl
theorem q1740 : (Jvm.Cond.methodLink "MatchmakerRulesLaw" (211 : Nat) ({ cls := "MatchmakerRulesLaw", name := "factLine", desc := "(LMatchmakerRules;I[J)I" } : Jvm.MethodName)) ∈ lw_all := lw_g (lw_at lw_m7 204 rfl) rfl
theorem q1741 : (Jvm.Cond.static ({ cls := "MatchmakerRulesLaw", name := "factLine", desc := "(LMatchmakerRules;I[J)I" } : Jvm.MethodName)) ∈ lw_all := lw_g (lw_at lw_m7 205 rfl) rfl
theorem q1742 : (Jvm.Cond.codeWith ({ cls := "MatchmakerRulesLaw", name := "factLine", desc := "(LMatchmakerRules;I[J)I" } : Jvm.MethodName) method_21_code (4 : Nat) (Option.some Jvm.ClassFile.FieldType.int) [((0 : Nat), (9 : Nat), (12 : Nat), (32 : Nat))]) ∈ lw_all := lw_g (lw_at lw_m7 206 rfl) rfl
theorem q1743 : (Jvm.Cond.methodLink "MatchmakerRulesLaw" (78 : Nat) ({ cls := "MatchmakerRules", name := "factLine", desc := "(I)I" } : Jvm.MethodName)) ∈ lw_all := lw_g (lw_at lw_m7 207 rfl) rfl
theorem q1762 : (Jvm.Cond.methodLink "MatchmakerRulesLaw" (214 : Nat) ({ cls := "MatchmakerRulesLaw", name := "character", desc := "(LMatchmakerRules;I[J)I" } : Jvm.MethodName)) ∈ lw_all := lw_g (lw_at lw_m7 226 rfl) rfl
theorem q1763 : (Jvm.Cond.static ({ cls := "MatchmakerRulesLaw", name := "character", desc := "(LMatchmakerRules;I[J)I" } : Jvm.MethodName)) ∈ lw_all := lw_g (lw_at lw_m7 227 rfl) rfl
theorem q1764 : (Jvm.Cond.codeWith ({ cls := "MatchmakerRulesLaw", name := "character", desc := "(LMatchmakerRules;I[J)I" } : Jvm.MethodName) method_22_code (4 : Nat) (Option.some Jvm.ClassFile.FieldType.int) [((0 : Nat), (9 : Nat), (12 : Nat), (57 : Nat))]) ∈ lw_all := lw_g (lw_at lw_m7 228 rfl) rfl
theorem q1765 : (Jvm.Cond.methodLink "MatchmakerRulesLaw" (81 : Nat) ({ cls := "MatchmakerRules", name := "character", desc := "(I)C" } : Jvm.MethodName)) ∈ lw_all := lw_g (lw_at lw_m7 229 rfl) rfl
theorem q1771 : (Jvm.Cond.methodLink "MatchmakerRulesLaw" (217 : Nat) ({ cls := "MatchmakerRulesLaw", name := "refusal", desc := "(LMatchmakerRules;Z[J)I" } : Jvm.MethodName)) ∈ lw_all := lw_g (lw_at lw_m7 235 rfl) rfl
theorem q1772 : (Jvm.Cond.static ({ cls := "MatchmakerRulesLaw", name := "refusal", desc := "(LMatchmakerRules;Z[J)I" } : Jvm.MethodName)) ∈ lw_all := lw_g (lw_at lw_m7 236 rfl) rfl
theorem q1773 : (Jvm.Cond.codeWith ({ cls := "MatchmakerRulesLaw", name := "refusal", desc := "(LMatchmakerRules;Z[J)I" } : Jvm.MethodName) method_23_code (4 : Nat) (Option.some Jvm.ClassFile.FieldType.int) [((0 : Nat), (9 : Nat), (12 : Nat), (89 : Nat))]) ∈ lw_all := lw_g (lw_at lw_m7 237 rfl) rfl
theorem q1774 : (Jvm.Cond.classLink "MatchmakerRulesLaw" (89 : Nat) "java/lang/IllegalStateException") ∈ lw_all := lw_g (lw_at lw_m7 238 rfl) rfl
theorem q1775 : (Jvm.Cond.methodLink "MatchmakerRulesLaw" (85 : Nat) ({ cls := "MatchmakerRules", name := "refusal", desc := "(Z)I" } : Jvm.MethodName)) ∈ lw_all := lw_g (lw_at lw_m7 239 rfl) rfl
theorem q1784 : (Jvm.Cond.methodLink "MatchmakerRulesLaw" (221 : Nat) ({ cls := "MatchmakerRulesLaw", name := "account", desc := "(LMatchmakerRules;I[J)I" } : Jvm.MethodName)) ∈ lw_all := lw_g (lw_at lw_m8 8 rfl) rfl
theorem q1785 : (Jvm.Cond.static ({ cls := "MatchmakerRulesLaw", name := "account", desc := "(LMatchmakerRules;I[J)I" } : Jvm.MethodName)) ∈ lw_all := lw_g (lw_at lw_m8 9 rfl) rfl
theorem q1786 : (Jvm.Cond.codeWith ({ cls := "MatchmakerRulesLaw", name := "account", desc := "(LMatchmakerRules;I[J)I" } : Jvm.MethodName) method_24_code (4 : Nat) (Option.some Jvm.ClassFile.FieldType.int) [((0 : Nat), (9 : Nat), (12 : Nat), (13 : Nat))]) ∈ lw_all := lw_g (lw_at lw_m8 10 rfl) rfl
theorem q1787 : (Jvm.Cond.methodLink "MatchmakerRulesLaw" (91 : Nat) ({ cls := "MatchmakerRules", name := "account", desc := "(I)I" } : Jvm.MethodName)) ∈ lw_all := lw_g (lw_at lw_m8 11 rfl) rfl
theorem q1801 : (Jvm.Cond.methodLink "MatchmakerRulesLaw" (224 : Nat) ({ cls := "MatchmakerRulesLaw", name := "meanTrust", desc := "(LMatchmakerRules;[D)I" } : Jvm.MethodName)) ∈ lw_all := lw_g (lw_at lw_m8 25 rfl) rfl
theorem q1802 : (Jvm.Cond.static ({ cls := "MatchmakerRulesLaw", name := "meanTrust", desc := "(LMatchmakerRules;[D)I" } : Jvm.MethodName)) ∈ lw_all := lw_g (lw_at lw_m8 26 rfl) rfl
theorem q1803 : (Jvm.Cond.codeWith ({ cls := "MatchmakerRulesLaw", name := "meanTrust", desc := "(LMatchmakerRules;[D)I" } : Jvm.MethodName) method_25_code (3 : Nat) (Option.some Jvm.ClassFile.FieldType.int) [((0 : Nat), (7 : Nat), (10 : Nat), (98 : Nat))]) ∈ lw_all := lw_g (lw_at lw_m8 27 rfl) rfl
theorem q1804 : (Jvm.Cond.classLink "MatchmakerRulesLaw" (98 : Nat) "java/lang/ArithmeticException") ∈ lw_all := lw_g (lw_at lw_m8 28 rfl) rfl
theorem q1818 : (Jvm.Cond.methodLink "MatchmakerRulesLaw" (94 : Nat) ({ cls := "MatchmakerRules", name := "meanTrust", desc := "()D" } : Jvm.MethodName)) ∈ lw_all := lw_g (lw_at lw_m8 42 rfl) rfl
theorem q1834 : (Jvm.Cond.methodLink "MatchmakerRulesLaw" (228 : Nat) ({ cls := "MatchmakerRulesLaw", name := "store", desc := "(LMatchmakerRules;IZ[J)I" } : Jvm.MethodName)) ∈ lw_all := lw_g (lw_at lw_m8 58 rfl) rfl
theorem q1835 : (Jvm.Cond.static ({ cls := "MatchmakerRulesLaw", name := "store", desc := "(LMatchmakerRules;IZ[J)I" } : Jvm.MethodName)) ∈ lw_all := lw_g (lw_at lw_m8 59 rfl) rfl
theorem q1836 : (Jvm.Cond.codeWith ({ cls := "MatchmakerRulesLaw", name := "store", desc := "(LMatchmakerRules;IZ[J)I" } : Jvm.MethodName) method_26_code (5 : Nat) (Option.some Jvm.ClassFile.FieldType.int) [((0 : Nat), (10 : Nat), (13 : Nat), (57 : Nat))]) ∈ lw_all := lw_g (lw_at lw_m8 60 rfl) rfl
theorem q1837 : (Jvm.Cond.methodLink "MatchmakerRulesLaw" (100 : Nat) ({ cls := "MatchmakerRules", name := "store", desc := "(IZ)I" } : Jvm.MethodName)) ∈ lw_all := lw_g (lw_at lw_m8 61 rfl) rfl
theorem q1845 : (Jvm.Cond.methodLink "MatchmakerRulesLaw" (232 : Nat) ({ cls := "MatchmakerRulesLaw", name := "copyRow", desc := "(LMatchmakerRules;II[J)I" } : Jvm.MethodName)) ∈ lw_all := lw_g (lw_at lw_m8 69 rfl) rfl
theorem q1846 : (Jvm.Cond.static ({ cls := "MatchmakerRulesLaw", name := "copyRow", desc := "(LMatchmakerRules;II[J)I" } : Jvm.MethodName)) ∈ lw_all := lw_g (lw_at lw_m8 70 rfl) rfl
theorem q1847 : (Jvm.Cond.codeWith ({ cls := "MatchmakerRulesLaw", name := "copyRow", desc := "(LMatchmakerRules;II[J)I" } : Jvm.MethodName) method_27_code (5 : Nat) (Option.some Jvm.ClassFile.FieldType.int) [((0 : Nat), (10 : Nat), (13 : Nat), (57 : Nat)), ((0 : Nat), (10 : Nat), (17 : Nat), (32 : Nat)), ((0 : Nat), (10 : Nat), (21 : Nat), (15 : Nat)), ((0 : Nat), (10 : Nat), (25 : Nat), (13 : Nat))]) ∈ lw_all := lw_g (lw_at lw_m8 71 rfl) rfl
theorem q1848 : (Jvm.Cond.methodLink "MatchmakerRulesLaw" (104 : Nat) ({ cls := "MatchmakerRules", name := "copyRow", desc := "(II)I" } : Jvm.MethodName)) ∈ lw_all := lw_g (lw_at lw_m8 72 rfl) rfl
theorem q1880 : (Jvm.Cond.methodLink "MatchmakerRulesLaw" (235 : Nat) ({ cls := "MatchmakerRulesLaw", name := "element", desc := "(LMatchmakerRules;II[J)I" } : Jvm.MethodName)) ∈ lw_all := lw_g (lw_at lw_m8 104 rfl) rfl
theorem q1881 : (Jvm.Cond.static ({ cls := "MatchmakerRulesLaw", name := "element", desc := "(LMatchmakerRules;II[J)I" } : Jvm.MethodName)) ∈ lw_all := lw_g (lw_at lw_m8 105 rfl) rfl
theorem q1882 : (Jvm.Cond.codeWith ({ cls := "MatchmakerRulesLaw", name := "element", desc := "(LMatchmakerRules;II[J)I" } : Jvm.MethodName) method_28_code (5 : Nat) (Option.some Jvm.ClassFile.FieldType.int) [((0 : Nat), (10 : Nat), (13 : Nat), (57 : Nat)), ((0 : Nat), (10 : Nat), (17 : Nat), (32 : Nat))]) ∈ lw_all := lw_g (lw_at lw_m8 106 rfl) rfl
theorem q1883 : (Jvm.Cond.methodLink "MatchmakerRulesLaw" (107 : Nat) ({ cls := "MatchmakerRules", name := "element", desc := "(II)I" } : Jvm.MethodName)) ∈ lw_all := lw_g (lw_at lw_m8 107 rfl) rfl
theorem q1890 : (Jvm.Cond.methodLink "MatchmakerRulesLaw" (238 : Nat) ({ cls := "MatchmakerRulesLaw", name := "append", desc := "(LMatchmakerRules;I[J)I" } : Jvm.MethodName)) ∈ lw_all := lw_g (lw_at lw_m8 114 rfl) rfl
theorem q1891 : (Jvm.Cond.static ({ cls := "MatchmakerRulesLaw", name := "append", desc := "(LMatchmakerRules;I[J)I" } : Jvm.MethodName)) ∈ lw_all := lw_g (lw_at lw_m8 115 rfl) rfl
theorem q1892 : (Jvm.Cond.codeWith ({ cls := "MatchmakerRulesLaw", name := "append", desc := "(LMatchmakerRules;I[J)I" } : Jvm.MethodName) method_29_code (4 : Nat) (Option.some Jvm.ClassFile.FieldType.int) [((0 : Nat), (9 : Nat), (12 : Nat), (13 : Nat)), ((0 : Nat), (9 : Nat), (15 : Nat), (89 : Nat))]) ∈ lw_all := lw_g (lw_at lw_m8 116 rfl) rfl
theorem q1893 : (Jvm.Cond.methodLink "MatchmakerRulesLaw" (110 : Nat) ({ cls := "MatchmakerRules", name := "append", desc := "(I)I" } : Jvm.MethodName)) ∈ lw_all := lw_g (lw_at lw_m8 117 rfl) rfl
theorem q1901 : (Jvm.Cond.methodLink "MatchmakerRulesLaw" (241 : Nat) ({ cls := "MatchmakerRulesLaw", name := "read", desc := "(LMatchmakerRules;[J)I" } : Jvm.MethodName)) ∈ lw_all := lw_g (lw_at lw_m8 125 rfl) rfl
theorem q1902 : (Jvm.Cond.static ({ cls := "MatchmakerRulesLaw", name := "read", desc := "(LMatchmakerRules;[J)I" } : Jvm.MethodName)) ∈ lw_all := lw_g (lw_at lw_m8 126 rfl) rfl
theorem q1903 : (Jvm.Cond.codeWith ({ cls := "MatchmakerRulesLaw", name := "read", desc := "(LMatchmakerRules;[J)I" } : Jvm.MethodName) method_30_code (3 : Nat) (Option.some Jvm.ClassFile.FieldType.int) [((0 : Nat), (8 : Nat), (11 : Nat), (13 : Nat)), ((0 : Nat), (8 : Nat), (14 : Nat), (15 : Nat))]) ∈ lw_all := lw_g (lw_at lw_m8 127 rfl) rfl
theorem q1904 : (Jvm.Cond.methodLink "MatchmakerRulesLaw" (113 : Nat) ({ cls := "MatchmakerRules", name := "read", desc := "()I" } : Jvm.MethodName)) ∈ lw_all := lw_g (lw_at lw_m8 128 rfl) rfl
theorem q1934 : (Jvm.Cond.methodLink "MatchmakerRulesLaw" (244 : Nat) ({ cls := "MatchmakerRulesLaw", name := "errorPosition", desc := "(LMatchmakerRules;[J)I" } : Jvm.MethodName)) ∈ lw_all := lw_g (lw_at lw_m8 158 rfl) rfl
theorem q1935 : (Jvm.Cond.static ({ cls := "MatchmakerRulesLaw", name := "errorPosition", desc := "(LMatchmakerRules;[J)I" } : Jvm.MethodName)) ∈ lw_all := lw_g (lw_at lw_m8 159 rfl) rfl
theorem q1936 : (Jvm.Cond.codeWith ({ cls := "MatchmakerRulesLaw", name := "errorPosition", desc := "(LMatchmakerRules;[J)I" } : Jvm.MethodName) method_31_code (3 : Nat) (Option.some Jvm.ClassFile.FieldType.int) [((0 : Nat), (8 : Nat), (11 : Nat), (32 : Nat))]) ∈ lw_all := lw_g (lw_at lw_m8 160 rfl) rfl
theorem q1937 : (Jvm.Cond.methodLink "MatchmakerRulesLaw" (116 : Nat) ({ cls := "MatchmakerRules", name := "errorPosition", desc := "()I" } : Jvm.MethodName)) ∈ lw_all := lw_g (lw_at lw_m8 161 rfl) rfl
theorem q1941 : (Jvm.Cond.methodLink "MatchmakerRulesLaw" (247 : Nat) ({ cls := "MatchmakerRulesLaw", name := "refusedItem", desc := "(LMatchmakerRules;[J)I" } : Jvm.MethodName)) ∈ lw_all := lw_g (lw_at lw_m8 165 rfl) rfl
theorem q1942 : (Jvm.Cond.static ({ cls := "MatchmakerRulesLaw", name := "refusedItem", desc := "(LMatchmakerRules;[J)I" } : Jvm.MethodName)) ∈ lw_all := lw_g (lw_at lw_m8 166 rfl) rfl
theorem q1943 : (Jvm.Cond.codeWith ({ cls := "MatchmakerRulesLaw", name := "refusedItem", desc := "(LMatchmakerRules;[J)I" } : Jvm.MethodName) method_32_code (3 : Nat) (Option.some Jvm.ClassFile.FieldType.int) [((0 : Nat), (8 : Nat), (11 : Nat), (32 : Nat))]) ∈ lw_all := lw_g (lw_at lw_m8 167 rfl) rfl
theorem q1944 : (Jvm.Cond.methodLink "MatchmakerRulesLaw" (119 : Nat) ({ cls := "MatchmakerRules", name := "refusedItem", desc := "()I" } : Jvm.MethodName)) ∈ lw_all := lw_g (lw_at lw_m8 168 rfl) rfl
theorem q1948 : (Jvm.Cond.methodLink "MatchmakerRulesLaw" (250 : Nat) ({ cls := "MatchmakerRulesLaw", name := "undo", desc := "(LMatchmakerRules;[J)I" } : Jvm.MethodName)) ∈ lw_all := lw_g (lw_at lw_m8 172 rfl) rfl
theorem q1949 : (Jvm.Cond.static ({ cls := "MatchmakerRulesLaw", name := "undo", desc := "(LMatchmakerRules;[J)I" } : Jvm.MethodName)) ∈ lw_all := lw_g (lw_at lw_m8 173 rfl) rfl
theorem q1950 : (Jvm.Cond.codeWith ({ cls := "MatchmakerRulesLaw", name := "undo", desc := "(LMatchmakerRules;[J)I" } : Jvm.MethodName) method_33_code (3 : Nat) (Option.some Jvm.ClassFile.FieldType.int) [((0 : Nat), (8 : Nat), (11 : Nat), (89 : Nat))]) ∈ lw_all := lw_g (lw_at lw_m8 174 rfl) rfl
theorem q1951 : (Jvm.Cond.methodLink "MatchmakerRulesLaw" (122 : Nat) ({ cls := "MatchmakerRules", name := "undo", desc := "()I" } : Jvm.MethodName)) ∈ lw_all := lw_g (lw_at lw_m8 175 rfl) rfl
theorem q1970 : (Jvm.Cond.methodLink "MatchmakerRulesLaw" (257 : Nat) ({ cls := "MatchmakerRulesLaw", name := "restore", desc := "(LMatchmakerRules;[J)I" } : Jvm.MethodName)) ∈ lw_all := lw_g (lw_at lw_m8 194 rfl) rfl
theorem q1971 : (Jvm.Cond.static ({ cls := "MatchmakerRulesLaw", name := "restore", desc := "(LMatchmakerRules;[J)I" } : Jvm.MethodName)) ∈ lw_all := lw_g (lw_at lw_m8 195 rfl) rfl
theorem q1972 : (Jvm.Cond.codeWith ({ cls := "MatchmakerRulesLaw", name := "restore", desc := "(LMatchmakerRules;[J)I" } : Jvm.MethodName) method_34_code (3 : Nat) (Option.some Jvm.ClassFile.FieldType.int) [((0 : Nat), (8 : Nat), (11 : Nat), (89 : Nat))]) ∈ lw_all := lw_g (lw_at lw_m8 196 rfl) rfl
theorem q1973 : (Jvm.Cond.methodLink "MatchmakerRulesLaw" (125 : Nat) ({ cls := "MatchmakerRules", name := "restore", desc := "()I" } : Jvm.MethodName)) ∈ lw_all := lw_g (lw_at lw_m8 197 rfl) rfl
theorem q1977 : (Jvm.Cond.classLink "MatchmakerRulesLaw" (129 : Nat) "MatchmakerRulesModel") ∈ lw_all := lw_g (lw_at lw_m8 201 rfl) rfl
theorem q1979 : (Jvm.Cond.methodLink "MatchmakerRulesLaw" (131 : Nat) ({ cls := "MatchmakerRulesModel", name := "<init>", desc := "()V" } : Jvm.MethodName)) ∈ lw_all := lw_g (lw_at lw_m8 203 rfl) rfl
theorem q2098 : (Jvm.Cond.methodLink "MatchmakerRulesLaw" (142 : Nat) ({ cls := "MatchmakerRulesModel", name := "thrown", desc := "()I" } : Jvm.MethodName)) ∈ lw_all := lw_g (lw_at lw_m9 82 rfl) rfl
theorem q2102 : (Jvm.Cond.methodLink "MatchmakerRulesLaw" (135 : Nat) ({ cls := "MatchmakerRulesModel", name := "clear", desc := "()I" } : Jvm.MethodName)) ∈ lw_all := lw_g (lw_at lw_m9 86 rfl) rfl
theorem q2106 : (Jvm.Cond.methodLink "MatchmakerRulesLaw" (141 : Nat) ({ cls := "MatchmakerRulesModel", name := "rule", desc := "()I" } : Jvm.MethodName)) ∈ lw_all := lw_g (lw_at lw_m9 90 rfl) rfl
theorem q2174 : (Jvm.Cond.methodLink "MatchmakerRulesLaw" (148 : Nat) ({ cls := "MatchmakerRulesModel", name := "drop", desc := "(I)I" } : Jvm.MethodName)) ∈ lw_all := lw_g (lw_at lw_m9 158 rfl) rfl
theorem q2214 : (Jvm.Cond.methodLink "MatchmakerRulesLaw" (152 : Nat) ({ cls := "MatchmakerRulesModel", name := "tell", desc := "(CIII)I" } : Jvm.MethodName)) ∈ lw_all := lw_g (lw_at lw_m9 198 rfl) rfl
theorem q2232 : (Jvm.Cond.methodLink "MatchmakerRulesLaw" (155 : Nat) ({ cls := "MatchmakerRulesModel", name := "untell", desc := "(I)I" } : Jvm.MethodName)) ∈ lw_all := lw_g (lw_at lw_m9 216 rfl) rfl
theorem q2248 : (Jvm.Cond.methodLink "MatchmakerRulesLaw" (159 : Nat) ({ cls := "MatchmakerRulesModel", name := "find", desc := "(CII)I" } : Jvm.MethodName)) ∈ lw_all := lw_g (lw_at lw_m9 232 rfl) rfl
theorem q2252 : (Jvm.Cond.methodLink "MatchmakerRulesLaw" (162 : Nat) ({ cls := "MatchmakerRulesModel", name := "factAt", desc := "(I)I" } : Jvm.MethodName)) ∈ lw_all := lw_g (lw_at lw_m9 236 rfl) rfl
theorem q2256 : (Jvm.Cond.methodLink "MatchmakerRulesLaw" (166 : Nat) ({ cls := "MatchmakerRulesModel", name := "factOf", desc := "(II)I" } : Jvm.MethodName)) ∈ lw_all := lw_g (lw_at lw_m10 0 rfl) rfl
theorem q2273 : (Jvm.Cond.methodLink "MatchmakerRulesLaw" (170 : Nat) ({ cls := "MatchmakerRulesModel", name := "trust", desc := "(I)F" } : Jvm.MethodName)) ∈ lw_all := lw_g (lw_at lw_m10 17 rfl) rfl
theorem q2284 : (Jvm.Cond.methodLink "MatchmakerRulesLaw" (173 : Nat) ({ cls := "MatchmakerRulesModel", name := "trustBits", desc := "(I)I" } : Jvm.MethodName)) ∈ lw_all := lw_g (lw_at lw_m10 28 rfl) rfl
theorem q2288 : (Jvm.Cond.methodLink "MatchmakerRulesLaw" (176 : Nat) ({ cls := "MatchmakerRulesModel", name := "trusted", desc := "(I)I" } : Jvm.MethodName)) ∈ lw_all := lw_g (lw_at lw_m10 32 rfl) rfl
theorem q2292 : (Jvm.Cond.methodLink "MatchmakerRulesLaw" (180 : Nat) ({ cls := "MatchmakerRulesModel", name := "due", desc := "(Z)I" } : Jvm.MethodName)) ∈ lw_all := lw_g (lw_at lw_m10 36 rfl) rfl
theorem q2331 : (Jvm.Cond.methodLink "MatchmakerRulesLaw" (183 : Nat) ({ cls := "MatchmakerRulesModel", name := "agenda", desc := "(II)I" } : Jvm.MethodName)) ∈ lw_all := lw_g (lw_at lw_m10 75 rfl) rfl
theorem q2347 : (Jvm.Cond.methodLink "MatchmakerRulesLaw" (186 : Nat) ({ cls := "MatchmakerRulesModel", name := "matches", desc := "(I)I" } : Jvm.MethodName)) ∈ lw_all := lw_g (lw_at lw_m10 91 rfl) rfl
theorem q2355 : (Jvm.Cond.methodLink "MatchmakerRulesLaw" (189 : Nat) ({ cls := "MatchmakerRulesModel", name := "fire", desc := "()I" } : Jvm.MethodName)) ∈ lw_all := lw_g (lw_at lw_m10 99 rfl) rfl
theorem q2363 : (Jvm.Cond.methodLink "MatchmakerRulesLaw" (192 : Nat) ({ cls := "MatchmakerRulesModel", name := "run", desc := "(I)I" } : Jvm.MethodName)) ∈ lw_all := lw_g (lw_at lw_m10 107 rfl) rfl
theorem q2375 : (Jvm.Cond.methodLink "MatchmakerRulesLaw" (195 : Nat) ({ cls := "MatchmakerRulesModel", name := "quietIn", desc := "()I" } : Jvm.MethodName)) ∈ lw_all := lw_g (lw_at lw_m10 119 rfl) rfl
theorem q2379 : (Jvm.Cond.methodLink "MatchmakerRulesLaw" (199 : Nat) ({ cls := "MatchmakerRulesModel", name := "why", desc := "(III)I" } : Jvm.MethodName)) ∈ lw_all := lw_g (lw_at lw_m10 123 rfl) rfl
theorem q2383 : (Jvm.Cond.methodLink "MatchmakerRulesLaw" (202 : Nat) ({ cls := "MatchmakerRulesModel", name := "wouldGo", desc := "(I)I" } : Jvm.MethodName)) ∈ lw_all := lw_g (lw_at lw_m10 127 rfl) rfl
theorem q2387 : (Jvm.Cond.methodLink "MatchmakerRulesLaw" (207 : Nat) ({ cls := "MatchmakerRulesModel", name := "isInOrder", desc := "()Z" } : Jvm.MethodName)) ∈ lw_all := lw_g (lw_at lw_m10 131 rfl) rfl
theorem q2395 : (Jvm.Cond.methodLink "MatchmakerRulesLaw" (210 : Nat) ({ cls := "MatchmakerRulesModel", name := "line", desc := "(I)I" } : Jvm.MethodName)) ∈ lw_all := lw_g (lw_at lw_m10 139 rfl) rfl
theorem q2411 : (Jvm.Cond.methodLink "MatchmakerRulesLaw" (213 : Nat) ({ cls := "MatchmakerRulesModel", name := "factLine", desc := "(I)I" } : Jvm.MethodName)) ∈ lw_all := lw_g (lw_at lw_m10 155 rfl) rfl
theorem q2419 : (Jvm.Cond.methodLink "MatchmakerRulesLaw" (216 : Nat) ({ cls := "MatchmakerRulesModel", name := "character", desc := "(I)C" } : Jvm.MethodName)) ∈ lw_all := lw_g (lw_at lw_m10 163 rfl) rfl
theorem q2423 : (Jvm.Cond.methodLink "MatchmakerRulesLaw" (220 : Nat) ({ cls := "MatchmakerRulesModel", name := "refusal", desc := "(Z)I" } : Jvm.MethodName)) ∈ lw_all := lw_g (lw_at lw_m10 167 rfl) rfl
theorem q2427 : (Jvm.Cond.methodLink "MatchmakerRulesLaw" (223 : Nat) ({ cls := "MatchmakerRulesModel", name := "account", desc := "(I)I" } : Jvm.MethodName)) ∈ lw_all := lw_g (lw_at lw_m10 171 rfl) rfl
theorem q2447 : (Jvm.Cond.methodLink "MatchmakerRulesLaw" (227 : Nat) ({ cls := "MatchmakerRulesModel", name := "meanTrust", desc := "()D" } : Jvm.MethodName)) ∈ lw_all := lw_g (lw_at lw_m10 191 rfl) rfl
theorem q2451 : (Jvm.Cond.methodLink "MatchmakerRulesLaw" (231 : Nat) ({ cls := "MatchmakerRulesModel", name := "store", desc := "(IZ)I" } : Jvm.MethodName)) ∈ lw_all := lw_g (lw_at lw_m10 195 rfl) rfl
theorem q2455 : (Jvm.Cond.methodLink "MatchmakerRulesLaw" (234 : Nat) ({ cls := "MatchmakerRulesModel", name := "copyRow", desc := "(II)I" } : Jvm.MethodName)) ∈ lw_all := lw_g (lw_at lw_m10 199 rfl) rfl
theorem q2463 : (Jvm.Cond.methodLink "MatchmakerRulesLaw" (237 : Nat) ({ cls := "MatchmakerRulesModel", name := "element", desc := "(II)I" } : Jvm.MethodName)) ∈ lw_all := lw_g (lw_at lw_m10 207 rfl) rfl
theorem q2467 : (Jvm.Cond.methodLink "MatchmakerRulesLaw" (240 : Nat) ({ cls := "MatchmakerRulesModel", name := "append", desc := "(I)I" } : Jvm.MethodName)) ∈ lw_all := lw_g (lw_at lw_m10 211 rfl) rfl
theorem q2471 : (Jvm.Cond.methodLink "MatchmakerRulesLaw" (243 : Nat) ({ cls := "MatchmakerRulesModel", name := "read", desc := "()I" } : Jvm.MethodName)) ∈ lw_all := lw_g (lw_at lw_m10 215 rfl) rfl
theorem q2487 : (Jvm.Cond.methodLink "MatchmakerRulesLaw" (246 : Nat) ({ cls := "MatchmakerRulesModel", name := "errorPosition", desc := "()I" } : Jvm.MethodName)) ∈ lw_all := lw_g (lw_at lw_m10 231 rfl) rfl
theorem q2491 : (Jvm.Cond.methodLink "MatchmakerRulesLaw" (249 : Nat) ({ cls := "MatchmakerRulesModel", name := "refusedItem", desc := "()I" } : Jvm.MethodName)) ∈ lw_all := lw_g (lw_at lw_m10 235 rfl) rfl
theorem q2495 : (Jvm.Cond.methodLink "MatchmakerRulesLaw" (252 : Nat) ({ cls := "MatchmakerRulesModel", name := "undo", desc := "()I" } : Jvm.MethodName)) ∈ lw_all := lw_g (lw_at lw_m10 239 rfl) rfl
theorem q2499 : (Jvm.Cond.methodLink "MatchmakerRulesLaw" (256 : Nat) ({ cls := "MatchmakerRulesModel", name := "snapshot", desc := "()I" } : Jvm.MethodName)) ∈ lw_all := lw_g (lw_at lw_m11 3 rfl) rfl
theorem q2503 : (Jvm.Cond.methodLink "MatchmakerRulesLaw" (259 : Nat) ({ cls := "MatchmakerRulesModel", name := "restore", desc := "()I" } : Jvm.MethodName)) ∈ lw_all := lw_g (lw_at lw_m11 7 rfl) rfl
/-! MatchmakerRules$Change -/
set_option maxRecDepth 100000
def RX5 : String := "MatchmakerRules$Change"
def TX5 : u_T := fun k => match k with
  | 0 => ("MatchmakerRules$Change", "sign", "C", true)
  | 1 => ("MatchmakerRules$Change", "numbers", "[I", true)
  | _ => ("MatchmakerRules$Change", "rule", "LMatchmakerRules$Rule;", true)
def tyX5 : Nat → FieldType := fun k => match k with
  | 0 => .char
  | 1 => .array .int
  | _ => .object "MatchmakerRules$Rule"
abbrev wsX50 : List Cond := u_ws RX5 TX5 3
theorem nmX5 : ∀ a, a < 3 → ∀ b, b < 3 → a ≠ b → (TX5 a).2.1 ≠ (TX5 b).2.1 := by decide +kernel
theorem tyX5_ok : ∀ k, k < 3 → parseFieldDescriptor (TX5 k).2.2.1 = some (tyX5 k) := by decide +kernel
abbrev cX5_init : ByteArray := prog_4_method_2_code
def yX5_init : MethodName := ⟨RX5, "<init>", "(LMatchmakerRules$Rule;)V"⟩
def dkwX5_init_0 : List UInt8 := [42, 183, 0, 1, 42, 16, 58, 181, 0, 7, 42, 3, 188, 10, 181, 0, 13, 42, 43, 181, 0, 17, 177]
abbrev dktX5_init_0 : List UInt8 := dkwX5_init_0 ++ []
theorem dksX5_init_0 : cX5_init.data.toList.drop 0 = dktX5_init_0 := by decide +kernel
theorem dX5_init_0 : decode cX5_init 0 = .ok (.aload_n 0, 1) := dk_42 (dk_at dksX5_init_0 0 rfl rfl)
theorem dX5_init_1 : decode cX5_init 1 = .ok (.invokespecial 1, 3) := dk_183 0 1 (dk_at dksX5_init_0 1 rfl rfl)
theorem dX5_init_4 : decode cX5_init 4 = .ok (.aload_n 0, 1) := dk_42 (dk_at dksX5_init_0 4 rfl rfl)
theorem dX5_init_5 : decode cX5_init 5 = .ok (.bipush 58, 2) := dk_16 58 (dk_at dksX5_init_0 5 rfl rfl)
theorem dX5_init_7 : decode cX5_init 7 = .ok (.putfield 7, 3) := dk_181 0 7 (dk_at dksX5_init_0 7 rfl rfl)
theorem dX5_init_10 : decode cX5_init 10 = .ok (.aload_n 0, 1) := dk_42 (dk_at dksX5_init_0 10 rfl rfl)
theorem dX5_init_11 : decode cX5_init 11 = .ok (.iconst 0, 1) := dk_3 (dk_at dksX5_init_0 11 rfl rfl)
theorem dX5_init_12 : decode cX5_init 12 = .ok (.newarray .int, 2) := dk_188_10 (dk_at dksX5_init_0 12 rfl rfl)
theorem dX5_init_14 : decode cX5_init 14 = .ok (.putfield 13, 3) := dk_181 0 13 (dk_at dksX5_init_0 14 rfl rfl)
theorem dX5_init_17 : decode cX5_init 17 = .ok (.aload_n 0, 1) := dk_42 (dk_at dksX5_init_0 17 rfl rfl)
theorem dX5_init_18 : decode cX5_init 18 = .ok (.aload_n 1, 1) := dk_43 (dk_at dksX5_init_0 18 rfl rfl)
theorem dX5_init_19 : decode cX5_init 19 = .ok (.putfield 17, 3) := dk_181 0 17 (dk_at dksX5_init_0 19 rfl rfl)
theorem dX5_init_22 : decode cX5_init 22 = .ok (.return_, 1) := dk_177 (dk_at dksX5_init_0 22 rfl rfl)
abbrev cX5_make : ByteArray := prog_4_method_3_code
def yX5_make : MethodName := ⟨RX5, "make", "(LMatchmakerRules$Book;)I"⟩
def dkwX5_make_5 : List UInt8 := [182, 0, 38, 172, 43, 182, 0, 41, 172]
abbrev dktX5_make_5 : List UInt8 := dkwX5_make_5 ++ []
def dkwX5_make_4 : List UInt8 := [182, 0, 31, 172, 43, 42, 180, 0, 13, 3, 46, 182, 0, 35, 172, 43, 42, 180, 0, 13, 3, 46]
abbrev dktX5_make_4 : List UInt8 := dkwX5_make_4 ++ dktX5_make_5
def dkwX5_make_3 : List UInt8 := [180, 0, 13, 3, 46, 146, 42, 180, 0, 13, 4, 46, 42, 180, 0, 13, 5, 46, 42, 180, 0, 13, 6, 46]
abbrev dktX5_make_3 : List UInt8 := dkwX5_make_3 ++ dktX5_make_4
def dkwX5_make_2 : List UInt8 := [43, 42, 180, 0, 17, 182, 0, 21, 172, 43, 42, 180, 0, 13, 3, 46, 182, 0, 27, 172, 43, 42]
abbrev dktX5_make_2 : List UInt8 := dkwX5_make_2 ++ dktX5_make_3
def dkwX5_make_1 : List UInt8 := [171, 0, 0, 0, 0, 0, 0, 124, 0, 0, 0, 5, 0, 0, 0, 43, 0, 0, 0, 72, 0, 0, 0, 45, 0, 0, 0, 102, 0, 0, 0, 58, 0, 0, 0, 52, 0, 0, 0, 102, 0, 0, 0, 113, 0, 0, 0, 120, 0, 0, 0, 61]
abbrev dktX5_make_1 : List UInt8 := dkwX5_make_1 ++ dktX5_make_2
def dkwX5_make_0 : List UInt8 := [42, 180, 0, 7]
abbrev dktX5_make_0 : List UInt8 := dkwX5_make_0 ++ dktX5_make_1
theorem dksX5_make_0 : cX5_make.data.toList.drop 0 = dktX5_make_0 := by decide +kernel
theorem dksX5_make_1 : cX5_make.data.toList.drop 4 = dktX5_make_1 := dk_seg dksX5_make_0 4 rfl rfl
theorem dksX5_make_2 : cX5_make.data.toList.drop 56 = dktX5_make_2 := dk_seg dksX5_make_1 52 rfl rfl
theorem dksX5_make_3 : cX5_make.data.toList.drop 78 = dktX5_make_3 := dk_seg dksX5_make_2 22 rfl rfl
theorem dksX5_make_4 : cX5_make.data.toList.drop 102 = dktX5_make_4 := dk_seg dksX5_make_3 24 rfl rfl
theorem dksX5_make_5 : cX5_make.data.toList.drop 124 = dktX5_make_5 := dk_seg dksX5_make_4 22 rfl rfl
theorem dX5_make_0 : decode cX5_make 0 = .ok (.aload_n 0, 1) := dk_42 (dk_at dksX5_make_0 0 rfl rfl)
theorem dX5_make_1 : decode cX5_make 1 = .ok (.getfield 7, 3) := dk_180 0 7 (dk_at dksX5_make_0 1 rfl rfl)
theorem dX5_make_4 : decode cX5_make 4 = .ok (.lookupswitch 124 #[(43, 72), (45, 102), (58, 52), (102, 113), (120, 61)], 52) := by decide +kernel
theorem dX5_make_56 : decode cX5_make 56 = .ok (.aload_n 1, 1) := dk_43 (dk_at dksX5_make_2 0 rfl rfl)
theorem dX5_make_57 : decode cX5_make 57 = .ok (.aload_n 0, 1) := dk_42 (dk_at dksX5_make_2 1 rfl rfl)
theorem dX5_make_58 : decode cX5_make 58 = .ok (.getfield 17, 3) := dk_180 0 17 (dk_at dksX5_make_2 2 rfl rfl)
theorem dX5_make_61 : decode cX5_make 61 = .ok (.invokevirtual 21, 3) := dk_182 0 21 (dk_at dksX5_make_2 5 rfl rfl)
theorem dX5_make_64 : decode cX5_make 64 = .ok (.ireturn, 1) := dk_172 (dk_at dksX5_make_2 8 rfl rfl)
theorem dX5_make_65 : decode cX5_make 65 = .ok (.aload_n 1, 1) := dk_43 (dk_at dksX5_make_2 9 rfl rfl)
theorem dX5_make_66 : decode cX5_make 66 = .ok (.aload_n 0, 1) := dk_42 (dk_at dksX5_make_2 10 rfl rfl)
theorem dX5_make_67 : decode cX5_make 67 = .ok (.getfield 13, 3) := dk_180 0 13 (dk_at dksX5_make_2 11 rfl rfl)
theorem dX5_make_70 : decode cX5_make 70 = .ok (.iconst 0, 1) := dk_3 (dk_at dksX5_make_2 14 rfl rfl)
theorem dX5_make_71 : decode cX5_make 71 = .ok (.iaload, 1) := dk_46 (dk_at dksX5_make_2 15 rfl rfl)
theorem dX5_make_72 : decode cX5_make 72 = .ok (.invokevirtual 27, 3) := dk_182 0 27 (dk_at dksX5_make_2 16 rfl rfl)
theorem dX5_make_75 : decode cX5_make 75 = .ok (.ireturn, 1) := dk_172 (dk_at dksX5_make_2 19 rfl rfl)
theorem dX5_make_76 : decode cX5_make 76 = .ok (.aload_n 1, 1) := dk_43 (dk_at dksX5_make_2 20 rfl rfl)
theorem dX5_make_77 : decode cX5_make 77 = .ok (.aload_n 0, 1) := dk_42 (dk_at dksX5_make_2 21 rfl rfl)
theorem dX5_make_78 : decode cX5_make 78 = .ok (.getfield 13, 3) := dk_180 0 13 (dk_at dksX5_make_3 0 rfl rfl)
theorem dX5_make_81 : decode cX5_make 81 = .ok (.iconst 0, 1) := dk_3 (dk_at dksX5_make_3 3 rfl rfl)
theorem dX5_make_82 : decode cX5_make 82 = .ok (.iaload, 1) := dk_46 (dk_at dksX5_make_3 4 rfl rfl)
theorem dX5_make_83 : decode cX5_make 83 = .ok (.i2c, 1) := dk_146 (dk_at dksX5_make_3 5 rfl rfl)
theorem dX5_make_84 : decode cX5_make 84 = .ok (.aload_n 0, 1) := dk_42 (dk_at dksX5_make_3 6 rfl rfl)
theorem dX5_make_85 : decode cX5_make 85 = .ok (.getfield 13, 3) := dk_180 0 13 (dk_at dksX5_make_3 7 rfl rfl)
theorem dX5_make_88 : decode cX5_make 88 = .ok (.iconst 1, 1) := dk_4 (dk_at dksX5_make_3 10 rfl rfl)
theorem dX5_make_89 : decode cX5_make 89 = .ok (.iaload, 1) := dk_46 (dk_at dksX5_make_3 11 rfl rfl)
theorem dX5_make_90 : decode cX5_make 90 = .ok (.aload_n 0, 1) := dk_42 (dk_at dksX5_make_3 12 rfl rfl)
theorem dX5_make_91 : decode cX5_make 91 = .ok (.getfield 13, 3) := dk_180 0 13 (dk_at dksX5_make_3 13 rfl rfl)
theorem dX5_make_94 : decode cX5_make 94 = .ok (.iconst 2, 1) := dk_5 (dk_at dksX5_make_3 16 rfl rfl)
theorem dX5_make_95 : decode cX5_make 95 = .ok (.iaload, 1) := dk_46 (dk_at dksX5_make_3 17 rfl rfl)
theorem dX5_make_96 : decode cX5_make 96 = .ok (.aload_n 0, 1) := dk_42 (dk_at dksX5_make_3 18 rfl rfl)
theorem dX5_make_97 : decode cX5_make 97 = .ok (.getfield 13, 3) := dk_180 0 13 (dk_at dksX5_make_3 19 rfl rfl)
theorem dX5_make_100 : decode cX5_make 100 = .ok (.iconst 3, 1) := dk_6 (dk_at dksX5_make_3 22 rfl rfl)
theorem dX5_make_101 : decode cX5_make 101 = .ok (.iaload, 1) := dk_46 (dk_at dksX5_make_3 23 rfl rfl)
theorem dX5_make_102 : decode cX5_make 102 = .ok (.invokevirtual 31, 3) := dk_182 0 31 (dk_at dksX5_make_4 0 rfl rfl)
theorem dX5_make_105 : decode cX5_make 105 = .ok (.ireturn, 1) := dk_172 (dk_at dksX5_make_4 3 rfl rfl)
theorem dX5_make_106 : decode cX5_make 106 = .ok (.aload_n 1, 1) := dk_43 (dk_at dksX5_make_4 4 rfl rfl)
theorem dX5_make_107 : decode cX5_make 107 = .ok (.aload_n 0, 1) := dk_42 (dk_at dksX5_make_4 5 rfl rfl)
theorem dX5_make_108 : decode cX5_make 108 = .ok (.getfield 13, 3) := dk_180 0 13 (dk_at dksX5_make_4 6 rfl rfl)
theorem dX5_make_111 : decode cX5_make 111 = .ok (.iconst 0, 1) := dk_3 (dk_at dksX5_make_4 9 rfl rfl)
theorem dX5_make_112 : decode cX5_make 112 = .ok (.iaload, 1) := dk_46 (dk_at dksX5_make_4 10 rfl rfl)
theorem dX5_make_113 : decode cX5_make 113 = .ok (.invokevirtual 35, 3) := dk_182 0 35 (dk_at dksX5_make_4 11 rfl rfl)
theorem dX5_make_116 : decode cX5_make 116 = .ok (.ireturn, 1) := dk_172 (dk_at dksX5_make_4 14 rfl rfl)
theorem dX5_make_117 : decode cX5_make 117 = .ok (.aload_n 1, 1) := dk_43 (dk_at dksX5_make_4 15 rfl rfl)
theorem dX5_make_118 : decode cX5_make 118 = .ok (.aload_n 0, 1) := dk_42 (dk_at dksX5_make_4 16 rfl rfl)
theorem dX5_make_119 : decode cX5_make 119 = .ok (.getfield 13, 3) := dk_180 0 13 (dk_at dksX5_make_4 17 rfl rfl)
theorem dX5_make_122 : decode cX5_make 122 = .ok (.iconst 0, 1) := dk_3 (dk_at dksX5_make_4 20 rfl rfl)
theorem dX5_make_123 : decode cX5_make 123 = .ok (.iaload, 1) := dk_46 (dk_at dksX5_make_4 21 rfl rfl)
theorem dX5_make_124 : decode cX5_make 124 = .ok (.invokevirtual 38, 3) := dk_182 0 38 (dk_at dksX5_make_5 0 rfl rfl)
theorem dX5_make_127 : decode cX5_make 127 = .ok (.ireturn, 1) := dk_172 (dk_at dksX5_make_5 3 rfl rfl)
theorem dX5_make_128 : decode cX5_make 128 = .ok (.aload_n 1, 1) := dk_43 (dk_at dksX5_make_5 4 rfl rfl)
theorem dX5_make_129 : decode cX5_make 129 = .ok (.invokevirtual 41, 3) := dk_182 0 41 (dk_at dksX5_make_5 5 rfl rfl)
theorem dX5_make_132 : decode cX5_make 132 = .ok (.ireturn, 1) := dk_172 (dk_at dksX5_make_5 8 rfl rfl)
abbrev cX5_init_2 : ByteArray := prog_4_method_1_code
def yX5_init_2 : MethodName := ⟨RX5, "<init>", "(C[I)V"⟩
def dkwX5_init_2_0 : List UInt8 := [42, 183, 0, 1, 42, 27, 181, 0, 7, 42, 44, 181, 0, 13, 42, 1, 181, 0, 17, 177]
abbrev dktX5_init_2_0 : List UInt8 := dkwX5_init_2_0 ++ []
theorem dksX5_init_2_0 : cX5_init_2.data.toList.drop 0 = dktX5_init_2_0 := by decide +kernel
theorem dX5_init_2_0 : decode cX5_init_2 0 = .ok (.aload_n 0, 1) := dk_42 (dk_at dksX5_init_2_0 0 rfl rfl)
theorem dX5_init_2_1 : decode cX5_init_2 1 = .ok (.invokespecial 1, 3) := dk_183 0 1 (dk_at dksX5_init_2_0 1 rfl rfl)
theorem dX5_init_2_4 : decode cX5_init_2 4 = .ok (.aload_n 0, 1) := dk_42 (dk_at dksX5_init_2_0 4 rfl rfl)
theorem dX5_init_2_5 : decode cX5_init_2 5 = .ok (.iload_n 1, 1) := dk_27 (dk_at dksX5_init_2_0 5 rfl rfl)
theorem dX5_init_2_6 : decode cX5_init_2 6 = .ok (.putfield 7, 3) := dk_181 0 7 (dk_at dksX5_init_2_0 6 rfl rfl)
theorem dX5_init_2_9 : decode cX5_init_2 9 = .ok (.aload_n 0, 1) := dk_42 (dk_at dksX5_init_2_0 9 rfl rfl)
theorem dX5_init_2_10 : decode cX5_init_2 10 = .ok (.aload_n 2, 1) := dk_44 (dk_at dksX5_init_2_0 10 rfl rfl)
theorem dX5_init_2_11 : decode cX5_init_2 11 = .ok (.putfield 13, 3) := dk_181 0 13 (dk_at dksX5_init_2_0 11 rfl rfl)
theorem dX5_init_2_14 : decode cX5_init_2 14 = .ok (.aload_n 0, 1) := dk_42 (dk_at dksX5_init_2_0 14 rfl rfl)
theorem dX5_init_2_15 : decode cX5_init_2 15 = .ok (.aconst_null, 1) := dk_1 (dk_at dksX5_init_2_0 15 rfl rfl)
theorem dX5_init_2_16 : decode cX5_init_2 16 = .ok (.putfield 17, 3) := dk_181 0 17 (dk_at dksX5_init_2_0 16 rfl rfl)
theorem dX5_init_2_19 : decode cX5_init_2 19 = .ok (.return_, 1) := dk_177 (dk_at dksX5_init_2_0 19 rfl rfl)
theorem q109 : (Jvm.Cond.initialized "MatchmakerRules$Change") ∈ lw_all := lw_g (lw_at lw_m1 13 rfl) rfl
theorem q584 : (Jvm.Cond.selects "MatchmakerRules$Change" ({ cls := "java/lang/Object", name := "equals", desc := "(Ljava/lang/Object;)Z" } : Jvm.MethodName) ({ cls := "java/lang/Object", name := "equals", desc := "(Ljava/lang/Object;)Z" } : Jvm.MethodName)) ∈ lw_all := lw_g (lw_at lw_m3 8 rfl) rfl
theorem q659 : (Jvm.Cond.instantiable "MatchmakerRules$Change" (3 : Nat)) ∈ lw_all := lw_g (lw_at lw_m3 83 rfl) rfl
theorem q885 : (Jvm.Cond.instanceMethod ({ cls := "MatchmakerRules$Change", name := "<init>", desc := "(LMatchmakerRules$Rule;)V" } : Jvm.MethodName)) ∈ lw_all := lw_g (lw_at lw_m4 69 rfl) rfl
theorem q886 : (Jvm.Cond.code ({ cls := "MatchmakerRules$Change", name := "<init>", desc := "(LMatchmakerRules$Rule;)V" } : Jvm.MethodName) prog_4_method_2_code (2 : Nat) (Option.none : Option Jvm.ClassFile.FieldType)) ∈ lw_all := lw_g (lw_at lw_m4 70 rfl) rfl
theorem q887 : (Jvm.Cond.methodLink "MatchmakerRules$Change" (1 : Nat) ({ cls := "java/lang/Object", name := "<init>", desc := "()V" } : Jvm.MethodName)) ∈ lw_all := lw_g (lw_at lw_m4 71 rfl) rfl
theorem q888 : (Jvm.Cond.fieldLink "MatchmakerRules$Change" (7 : Nat) "MatchmakerRules$Change" "sign" "C") ∈ lw_all := lw_g (lw_at lw_m4 72 rfl) rfl
theorem q889 : (Jvm.Cond.fieldLink "MatchmakerRules$Change" (13 : Nat) "MatchmakerRules$Change" "numbers" "[I") ∈ lw_all := lw_g (lw_at lw_m4 73 rfl) rfl
theorem q890 : (Jvm.Cond.fieldLink "MatchmakerRules$Change" (17 : Nat) "MatchmakerRules$Change" "rule" "LMatchmakerRules$Rule;") ∈ lw_all := lw_g (lw_at lw_m4 74 rfl) rfl
theorem q891 : (Jvm.Cond.laysFinal "MatchmakerRules$Change" "MatchmakerRules$Change" "sign" "C") ∈ lw_all := lw_g (lw_at lw_m4 75 rfl) rfl
theorem q892 : (Jvm.Cond.soleField "MatchmakerRules$Change" "sign") ∈ lw_all := lw_g (lw_at lw_m4 76 rfl) rfl
theorem q893 : (Jvm.Cond.laysFinal "MatchmakerRules$Change" "MatchmakerRules$Change" "numbers" "[I") ∈ lw_all := lw_g (lw_at lw_m4 77 rfl) rfl
theorem q894 : (Jvm.Cond.soleField "MatchmakerRules$Change" "numbers") ∈ lw_all := lw_g (lw_at lw_m4 78 rfl) rfl
theorem q895 : (Jvm.Cond.laysFinal "MatchmakerRules$Change" "MatchmakerRules$Change" "rule" "LMatchmakerRules$Rule;") ∈ lw_all := lw_g (lw_at lw_m4 79 rfl) rfl
theorem q896 : (Jvm.Cond.soleField "MatchmakerRules$Change" "rule") ∈ lw_all := lw_g (lw_at lw_m4 80 rfl) rfl
theorem q897 : (Jvm.Cond.superclass "MatchmakerRules$Change" "java/lang/Object") ∈ lw_all := lw_g (lw_at lw_m4 81 rfl) rfl
theorem q942 : (Jvm.Cond.selects "MatchmakerRules$Change" ({ cls := "java/lang/Object", name := "getClass", desc := "()Ljava/lang/Class;" } : Jvm.MethodName) ({ cls := "java/lang/Object", name := "getClass", desc := "()Ljava/lang/Class;" } : Jvm.MethodName)) ∈ lw_all := lw_g (lw_at lw_m4 126 rfl) rfl
theorem q1044 : (Jvm.Cond.instanceMethod ({ cls := "MatchmakerRules$Change", name := "make", desc := "(LMatchmakerRules$Book;)I" } : Jvm.MethodName)) ∈ lw_all := lw_g (lw_at lw_m4 228 rfl) rfl
theorem q1045 : (Jvm.Cond.selects "MatchmakerRules$Change" ({ cls := "MatchmakerRules$Change", name := "make", desc := "(LMatchmakerRules$Book;)I" } : Jvm.MethodName) ({ cls := "MatchmakerRules$Change", name := "make", desc := "(LMatchmakerRules$Book;)I" } : Jvm.MethodName)) ∈ lw_all := lw_g (lw_at lw_m4 229 rfl) rfl
theorem q1046 : (Jvm.Cond.code ({ cls := "MatchmakerRules$Change", name := "make", desc := "(LMatchmakerRules$Book;)I" } : Jvm.MethodName) prog_4_method_3_code (2 : Nat) (Option.some Jvm.ClassFile.FieldType.int)) ∈ lw_all := lw_g (lw_at lw_m4 230 rfl) rfl
theorem q1047 : (Jvm.Cond.methodLink "MatchmakerRules$Change" (21 : Nat) ({ cls := "MatchmakerRules$Book", name := "add", desc := "(LMatchmakerRules$Rule;)I" } : Jvm.MethodName)) ∈ lw_all := lw_g (lw_at lw_m4 231 rfl) rfl
theorem q1077 : (Jvm.Cond.methodLink "MatchmakerRules$Change" (27 : Nat) ({ cls := "MatchmakerRules$Book", name := "drop", desc := "(I)I" } : Jvm.MethodName)) ∈ lw_all := lw_g (lw_at lw_m5 21 rfl) rfl
theorem q1150 : (Jvm.Cond.methodLink "MatchmakerRules$Change" (31 : Nat) ({ cls := "MatchmakerRules$Book", name := "tell", desc := "(CIII)I" } : Jvm.MethodName)) ∈ lw_all := lw_g (lw_at lw_m5 94 rfl) rfl
theorem q1167 : (Jvm.Cond.methodLink "MatchmakerRules$Change" (35 : Nat) ({ cls := "MatchmakerRules$Book", name := "untell", desc := "(I)I" } : Jvm.MethodName)) ∈ lw_all := lw_g (lw_at lw_m5 111 rfl) rfl
theorem q1171 : (Jvm.Cond.methodLink "MatchmakerRules$Change" (38 : Nat) ({ cls := "MatchmakerRules$Book", name := "run", desc := "(I)I" } : Jvm.MethodName)) ∈ lw_all := lw_g (lw_at lw_m5 115 rfl) rfl
theorem q1234 : (Jvm.Cond.methodLink "MatchmakerRules$Change" (41 : Nat) ({ cls := "MatchmakerRules$Book", name := "fireFirst", desc := "()I" } : Jvm.MethodName)) ∈ lw_all := lw_g (lw_at lw_m5 178 rfl) rfl
theorem q1318 : (Jvm.Cond.instanceMethod ({ cls := "MatchmakerRules$Change", name := "<init>", desc := "(C[I)V" } : Jvm.MethodName)) ∈ lw_all := lw_g (lw_at lw_m6 22 rfl) rfl
theorem q1319 : (Jvm.Cond.code ({ cls := "MatchmakerRules$Change", name := "<init>", desc := "(C[I)V" } : Jvm.MethodName) prog_4_method_1_code (3 : Nat) (Option.none : Option Jvm.ClassFile.FieldType)) ∈ lw_all := lw_g (lw_at lw_m6 23 rfl) rfl
theorem q2534 : (Jvm.Cond.castable "MatchmakerRules$Change" "java/lang/Object") ∈ lw_tbl := lw_at lw_m11 38 rfl
theorem in_X5 : ∀ w ∈ wsX50, w ∈ lw_all := lw_in wsX50 [891, 893, 895] (by decide +kernel) (by decide +kernel)
/-! MatchmakerRules$Parser -/
set_option maxRecDepth 100000
def RX6 : String := "MatchmakerRules$Parser"
def TX6 : u_T := fun k => match k with
  | 0 => ("MatchmakerRules$Parser", "text", "Ljava/lang/CharSequence;", true)
  | _ => ("MatchmakerRules$Parser", "position", "I", false)
def tyX6 : Nat → FieldType := fun k => match k with
  | 0 => .object "java/lang/CharSequence"
  | _ => .int
abbrev wsX60 : List Cond := u_ws RX6 TX6 2
theorem nmX6 : ∀ a, a < 2 → ∀ b, b < 2 → a ≠ b → (TX6 a).2.1 ≠ (TX6 b).2.1 := by decide +kernel
theorem tyX6_ok : ∀ k, k < 2 → parseFieldDescriptor (TX6 k).2.2.1 = some (tyX6 k) := by decide +kernel
abbrev cX6_init : ByteArray := prog_7_method_1_code
def yX6_init : MethodName := ⟨RX6, "<init>", "(Ljava/lang/CharSequence;)V"⟩
def dkwX6_init_0 : List UInt8 := [42, 183, 0, 3, 42, 43, 181, 0, 9, 177]
abbrev dktX6_init_0 : List UInt8 := dkwX6_init_0 ++ []
theorem dksX6_init_0 : cX6_init.data.toList.drop 0 = dktX6_init_0 := by decide +kernel
theorem dX6_init_0 : decode cX6_init 0 = .ok (.aload_n 0, 1) := dk_42 (dk_at dksX6_init_0 0 rfl rfl)
theorem dX6_init_1 : decode cX6_init 1 = .ok (.invokespecial 3, 3) := dk_183 0 3 (dk_at dksX6_init_0 1 rfl rfl)
theorem dX6_init_4 : decode cX6_init 4 = .ok (.aload_n 0, 1) := dk_42 (dk_at dksX6_init_0 4 rfl rfl)
theorem dX6_init_5 : decode cX6_init 5 = .ok (.aload_n 1, 1) := dk_43 (dk_at dksX6_init_0 5 rfl rfl)
theorem dX6_init_6 : decode cX6_init 6 = .ok (.putfield 9, 3) := dk_181 0 9 (dk_at dksX6_init_0 6 rfl rfl)
theorem dX6_init_9 : decode cX6_init 9 = .ok (.return_, 1) := dk_177 (dk_at dksX6_init_0 9 rfl rfl)
abbrev cX6_wholeRule : ByteArray := prog_7_method_11_code
def yX6_wholeRule : MethodName := ⟨RX6, "wholeRule", "()LMatchmakerRules$Rule;"⟩
def dkwX6_wholeRule_1 : List UInt8 := [89, 42, 180, 0, 15, 183, 0, 39, 191, 43, 176]
abbrev dktX6_wholeRule_1 : List UInt8 := dkwX6_wholeRule_1 ++ []
def dkwX6_wholeRule_0 : List UInt8 := [42, 182, 0, 79, 76, 42, 180, 0, 15, 42, 180, 0, 9, 185, 0, 19, 1, 0, 162, 0, 15, 187, 0, 37]
abbrev dktX6_wholeRule_0 : List UInt8 := dkwX6_wholeRule_0 ++ dktX6_wholeRule_1
theorem dksX6_wholeRule_0 : cX6_wholeRule.data.toList.drop 0 = dktX6_wholeRule_0 := by decide +kernel
theorem dksX6_wholeRule_1 : cX6_wholeRule.data.toList.drop 24 = dktX6_wholeRule_1 := dk_seg dksX6_wholeRule_0 24 rfl rfl
theorem dX6_wholeRule_0 : decode cX6_wholeRule 0 = .ok (.aload_n 0, 1) := dk_42 (dk_at dksX6_wholeRule_0 0 rfl rfl)
theorem dX6_wholeRule_1 : decode cX6_wholeRule 1 = .ok (.invokevirtual 79, 3) := dk_182 0 79 (dk_at dksX6_wholeRule_0 1 rfl rfl)
theorem dX6_wholeRule_4 : decode cX6_wholeRule 4 = .ok (.astore_n 1, 1) := dk_76 (dk_at dksX6_wholeRule_0 4 rfl rfl)
theorem dX6_wholeRule_5 : decode cX6_wholeRule 5 = .ok (.aload_n 0, 1) := dk_42 (dk_at dksX6_wholeRule_0 5 rfl rfl)
theorem dX6_wholeRule_6 : decode cX6_wholeRule 6 = .ok (.getfield 15, 3) := dk_180 0 15 (dk_at dksX6_wholeRule_0 6 rfl rfl)
theorem dX6_wholeRule_9 : decode cX6_wholeRule 9 = .ok (.aload_n 0, 1) := dk_42 (dk_at dksX6_wholeRule_0 9 rfl rfl)
theorem dX6_wholeRule_10 : decode cX6_wholeRule 10 = .ok (.getfield 9, 3) := dk_180 0 9 (dk_at dksX6_wholeRule_0 10 rfl rfl)
theorem dX6_wholeRule_13 : decode cX6_wholeRule 13 = .ok (.invokeinterface 19 1, 5) := by decide +kernel
theorem dX6_wholeRule_18 : decode cX6_wholeRule 18 = .ok (.if_icmp .ge 15, 3) := dk_162 0 15 (dk_at dksX6_wholeRule_0 18 rfl rfl)
theorem dX6_wholeRule_21 : decode cX6_wholeRule 21 = .ok (.new 37, 3) := dk_187 0 37 (dk_at dksX6_wholeRule_0 21 rfl rfl)
theorem dX6_wholeRule_24 : decode cX6_wholeRule 24 = .ok (.dup, 1) := dk_89 (dk_at dksX6_wholeRule_1 0 rfl rfl)
theorem dX6_wholeRule_25 : decode cX6_wholeRule 25 = .ok (.aload_n 0, 1) := dk_42 (dk_at dksX6_wholeRule_1 1 rfl rfl)
theorem dX6_wholeRule_26 : decode cX6_wholeRule 26 = .ok (.getfield 15, 3) := dk_180 0 15 (dk_at dksX6_wholeRule_1 2 rfl rfl)
theorem dX6_wholeRule_29 : decode cX6_wholeRule 29 = .ok (.invokespecial 39, 3) := dk_183 0 39 (dk_at dksX6_wholeRule_1 5 rfl rfl)
theorem dX6_wholeRule_32 : decode cX6_wholeRule 32 = .ok (.athrow, 1) := dk_191 (dk_at dksX6_wholeRule_1 8 rfl rfl)
theorem dX6_wholeRule_33 : decode cX6_wholeRule 33 = .ok (.aload_n 1, 1) := dk_43 (dk_at dksX6_wholeRule_1 9 rfl rfl)
theorem dX6_wholeRule_34 : decode cX6_wholeRule 34 = .ok (.areturn, 1) := dk_176 (dk_at dksX6_wholeRule_1 10 rfl rfl)
abbrev cX6_rule : ByteArray := prog_7_method_10_code
def yX6_rule : MethodName := ⟨RX6, "rule", "()LMatchmakerRules$Rule;"⟩
def dkwX6_rule_5 : List UInt8 := [182, 0, 46, 183, 0, 76, 176]
abbrev dktX6_rule_5 : List UInt8 := dkwX6_rule_5 ++ []
def dkwX6_rule_4 : List UInt8 := [42, 16, 42, 16, 42, 182, 0, 42, 54, 6, 187, 0, 74, 89, 44, 25, 5, 21, 4, 25, 7, 42]
abbrev dktX6_rule_4 : List UInt8 := dkwX6_rule_4 ++ dktX6_rule_5
def dkwX6_rule_3 : List UInt8 := [25, 5, 184, 0, 70, 128, 62, 42, 16, 62, 16, 62, 182, 0, 42, 54, 6, 42, 29, 182, 0, 66, 58, 7]
abbrev dktX6_rule_3 : List UInt8 := dkwX6_rule_3 ++ dktX6_rule_4
def dkwX6_rule_2 : List UInt8 := [58, 5, 167, 0, 29, 42, 16, 62, 16, 62, 182, 0, 33, 154, 0, 18, 42, 27, 182, 0, 66, 58, 5, 29]
abbrev dktX6_rule_2 : List UInt8 := dkwX6_rule_2 ++ dktX6_rule_3
def dkwX6_rule_1 : List UInt8 := [1, 58, 5, 21, 4, 153, 0, 23, 42, 16, 33, 16, 33, 182, 0, 42, 54, 6, 42, 29, 182, 0, 66]
abbrev dktX6_rule_1 : List UInt8 := dkwX6_rule_1 ++ dktX6_rule_2
def dkwX6_rule_0 : List UInt8 := [16, 7, 60, 42, 27, 182, 0, 66, 77, 44, 184, 0, 70, 62, 42, 16, 33, 16, 33, 182, 0, 33, 54, 4]
abbrev dktX6_rule_0 : List UInt8 := dkwX6_rule_0 ++ dktX6_rule_1
theorem dksX6_rule_0 : cX6_rule.data.toList.drop 0 = dktX6_rule_0 := by decide +kernel
theorem dksX6_rule_1 : cX6_rule.data.toList.drop 24 = dktX6_rule_1 := dk_seg dksX6_rule_0 24 rfl rfl
theorem dksX6_rule_2 : cX6_rule.data.toList.drop 47 = dktX6_rule_2 := dk_seg dksX6_rule_1 23 rfl rfl
theorem dksX6_rule_3 : cX6_rule.data.toList.drop 71 = dktX6_rule_3 := dk_seg dksX6_rule_2 24 rfl rfl
theorem dksX6_rule_4 : cX6_rule.data.toList.drop 95 = dktX6_rule_4 := dk_seg dksX6_rule_3 24 rfl rfl
theorem dksX6_rule_5 : cX6_rule.data.toList.drop 117 = dktX6_rule_5 := dk_seg dksX6_rule_4 22 rfl rfl
theorem dX6_rule_0 : decode cX6_rule 0 = .ok (.bipush 7, 2) := dk_16 7 (dk_at dksX6_rule_0 0 rfl rfl)
theorem dX6_rule_2 : decode cX6_rule 2 = .ok (.istore_n 1, 1) := dk_60 (dk_at dksX6_rule_0 2 rfl rfl)
theorem dX6_rule_3 : decode cX6_rule 3 = .ok (.aload_n 0, 1) := dk_42 (dk_at dksX6_rule_0 3 rfl rfl)
theorem dX6_rule_4 : decode cX6_rule 4 = .ok (.iload_n 1, 1) := dk_27 (dk_at dksX6_rule_0 4 rfl rfl)
theorem dX6_rule_5 : decode cX6_rule 5 = .ok (.invokevirtual 66, 3) := dk_182 0 66 (dk_at dksX6_rule_0 5 rfl rfl)
theorem dX6_rule_8 : decode cX6_rule 8 = .ok (.astore_n 2, 1) := dk_77 (dk_at dksX6_rule_0 8 rfl rfl)
theorem dX6_rule_9 : decode cX6_rule 9 = .ok (.aload_n 2, 1) := dk_44 (dk_at dksX6_rule_0 9 rfl rfl)
theorem dX6_rule_10 : decode cX6_rule 10 = .ok (.invokestatic 70, 3) := dk_184 0 70 (dk_at dksX6_rule_0 10 rfl rfl)
theorem dX6_rule_13 : decode cX6_rule 13 = .ok (.istore_n 3, 1) := dk_62 (dk_at dksX6_rule_0 13 rfl rfl)
theorem dX6_rule_14 : decode cX6_rule 14 = .ok (.aload_n 0, 1) := dk_42 (dk_at dksX6_rule_0 14 rfl rfl)
theorem dX6_rule_15 : decode cX6_rule 15 = .ok (.bipush 33, 2) := dk_16 33 (dk_at dksX6_rule_0 15 rfl rfl)
theorem dX6_rule_17 : decode cX6_rule 17 = .ok (.bipush 33, 2) := dk_16 33 (dk_at dksX6_rule_0 17 rfl rfl)
theorem dX6_rule_19 : decode cX6_rule 19 = .ok (.invokevirtual 33, 3) := dk_182 0 33 (dk_at dksX6_rule_0 19 rfl rfl)
theorem dX6_rule_22 : decode cX6_rule 22 = .ok (.istore 4, 2) := dk_54 4 (dk_at dksX6_rule_0 22 rfl rfl)
theorem dX6_rule_24 : decode cX6_rule 24 = .ok (.aconst_null, 1) := dk_1 (dk_at dksX6_rule_1 0 rfl rfl)
theorem dX6_rule_25 : decode cX6_rule 25 = .ok (.astore 5, 2) := dk_58 5 (dk_at dksX6_rule_1 1 rfl rfl)
theorem dX6_rule_27 : decode cX6_rule 27 = .ok (.iload 4, 2) := dk_21 4 (dk_at dksX6_rule_1 3 rfl rfl)
theorem dX6_rule_29 : decode cX6_rule 29 = .ok (.ifCond .eq 23, 3) := dk_153 0 23 (dk_at dksX6_rule_1 5 rfl rfl)
theorem dX6_rule_32 : decode cX6_rule 32 = .ok (.aload_n 0, 1) := dk_42 (dk_at dksX6_rule_1 8 rfl rfl)
theorem dX6_rule_33 : decode cX6_rule 33 = .ok (.bipush 33, 2) := dk_16 33 (dk_at dksX6_rule_1 9 rfl rfl)
theorem dX6_rule_35 : decode cX6_rule 35 = .ok (.bipush 33, 2) := dk_16 33 (dk_at dksX6_rule_1 11 rfl rfl)
theorem dX6_rule_37 : decode cX6_rule 37 = .ok (.invokevirtual 42, 3) := dk_182 0 42 (dk_at dksX6_rule_1 13 rfl rfl)
theorem dX6_rule_40 : decode cX6_rule 40 = .ok (.istore 6, 2) := dk_54 6 (dk_at dksX6_rule_1 16 rfl rfl)
theorem dX6_rule_42 : decode cX6_rule 42 = .ok (.aload_n 0, 1) := dk_42 (dk_at dksX6_rule_1 18 rfl rfl)
theorem dX6_rule_43 : decode cX6_rule 43 = .ok (.iload_n 3, 1) := dk_29 (dk_at dksX6_rule_1 19 rfl rfl)
theorem dX6_rule_44 : decode cX6_rule 44 = .ok (.invokevirtual 66, 3) := dk_182 0 66 (dk_at dksX6_rule_1 20 rfl rfl)
theorem dX6_rule_47 : decode cX6_rule 47 = .ok (.astore 5, 2) := dk_58 5 (dk_at dksX6_rule_2 0 rfl rfl)
theorem dX6_rule_49 : decode cX6_rule 49 = .ok (.goto 29, 3) := dk_167 0 29 (dk_at dksX6_rule_2 2 rfl rfl)
theorem dX6_rule_52 : decode cX6_rule 52 = .ok (.aload_n 0, 1) := dk_42 (dk_at dksX6_rule_2 5 rfl rfl)
theorem dX6_rule_53 : decode cX6_rule 53 = .ok (.bipush 62, 2) := dk_16 62 (dk_at dksX6_rule_2 6 rfl rfl)
theorem dX6_rule_55 : decode cX6_rule 55 = .ok (.bipush 62, 2) := dk_16 62 (dk_at dksX6_rule_2 8 rfl rfl)
theorem dX6_rule_57 : decode cX6_rule 57 = .ok (.invokevirtual 33, 3) := dk_182 0 33 (dk_at dksX6_rule_2 10 rfl rfl)
theorem dX6_rule_60 : decode cX6_rule 60 = .ok (.ifCond .ne 18, 3) := dk_154 0 18 (dk_at dksX6_rule_2 13 rfl rfl)
theorem dX6_rule_63 : decode cX6_rule 63 = .ok (.aload_n 0, 1) := dk_42 (dk_at dksX6_rule_2 16 rfl rfl)
theorem dX6_rule_64 : decode cX6_rule 64 = .ok (.iload_n 1, 1) := dk_27 (dk_at dksX6_rule_2 17 rfl rfl)
theorem dX6_rule_65 : decode cX6_rule 65 = .ok (.invokevirtual 66, 3) := dk_182 0 66 (dk_at dksX6_rule_2 18 rfl rfl)
theorem dX6_rule_68 : decode cX6_rule 68 = .ok (.astore 5, 2) := dk_58 5 (dk_at dksX6_rule_2 21 rfl rfl)
theorem dX6_rule_70 : decode cX6_rule 70 = .ok (.iload_n 3, 1) := dk_29 (dk_at dksX6_rule_2 23 rfl rfl)
theorem dX6_rule_71 : decode cX6_rule 71 = .ok (.aload 5, 2) := dk_25 5 (dk_at dksX6_rule_3 0 rfl rfl)
theorem dX6_rule_73 : decode cX6_rule 73 = .ok (.invokestatic 70, 3) := dk_184 0 70 (dk_at dksX6_rule_3 2 rfl rfl)
theorem dX6_rule_76 : decode cX6_rule 76 = .ok (.ior, 1) := dk_128 (dk_at dksX6_rule_3 5 rfl rfl)
theorem dX6_rule_77 : decode cX6_rule 77 = .ok (.istore_n 3, 1) := dk_62 (dk_at dksX6_rule_3 6 rfl rfl)
theorem dX6_rule_78 : decode cX6_rule 78 = .ok (.aload_n 0, 1) := dk_42 (dk_at dksX6_rule_3 7 rfl rfl)
theorem dX6_rule_79 : decode cX6_rule 79 = .ok (.bipush 62, 2) := dk_16 62 (dk_at dksX6_rule_3 8 rfl rfl)
theorem dX6_rule_81 : decode cX6_rule 81 = .ok (.bipush 62, 2) := dk_16 62 (dk_at dksX6_rule_3 10 rfl rfl)
theorem dX6_rule_83 : decode cX6_rule 83 = .ok (.invokevirtual 42, 3) := dk_182 0 42 (dk_at dksX6_rule_3 12 rfl rfl)
theorem dX6_rule_86 : decode cX6_rule 86 = .ok (.istore 6, 2) := dk_54 6 (dk_at dksX6_rule_3 15 rfl rfl)
theorem dX6_rule_88 : decode cX6_rule 88 = .ok (.aload_n 0, 1) := dk_42 (dk_at dksX6_rule_3 17 rfl rfl)
theorem dX6_rule_89 : decode cX6_rule 89 = .ok (.iload_n 3, 1) := dk_29 (dk_at dksX6_rule_3 18 rfl rfl)
theorem dX6_rule_90 : decode cX6_rule 90 = .ok (.invokevirtual 66, 3) := dk_182 0 66 (dk_at dksX6_rule_3 19 rfl rfl)
theorem dX6_rule_93 : decode cX6_rule 93 = .ok (.astore 7, 2) := dk_58 7 (dk_at dksX6_rule_3 22 rfl rfl)
theorem dX6_rule_95 : decode cX6_rule 95 = .ok (.aload_n 0, 1) := dk_42 (dk_at dksX6_rule_4 0 rfl rfl)
theorem dX6_rule_96 : decode cX6_rule 96 = .ok (.bipush 42, 2) := dk_16 42 (dk_at dksX6_rule_4 1 rfl rfl)
theorem dX6_rule_98 : decode cX6_rule 98 = .ok (.bipush 42, 2) := dk_16 42 (dk_at dksX6_rule_4 3 rfl rfl)
theorem dX6_rule_100 : decode cX6_rule 100 = .ok (.invokevirtual 42, 3) := dk_182 0 42 (dk_at dksX6_rule_4 5 rfl rfl)
theorem dX6_rule_103 : decode cX6_rule 103 = .ok (.istore 6, 2) := dk_54 6 (dk_at dksX6_rule_4 8 rfl rfl)
theorem dX6_rule_105 : decode cX6_rule 105 = .ok (.new 74, 3) := dk_187 0 74 (dk_at dksX6_rule_4 10 rfl rfl)
theorem dX6_rule_108 : decode cX6_rule 108 = .ok (.dup, 1) := dk_89 (dk_at dksX6_rule_4 13 rfl rfl)
theorem dX6_rule_109 : decode cX6_rule 109 = .ok (.aload_n 2, 1) := dk_44 (dk_at dksX6_rule_4 14 rfl rfl)
theorem dX6_rule_110 : decode cX6_rule 110 = .ok (.aload 5, 2) := dk_25 5 (dk_at dksX6_rule_4 15 rfl rfl)
theorem dX6_rule_112 : decode cX6_rule 112 = .ok (.iload 4, 2) := dk_21 4 (dk_at dksX6_rule_4 17 rfl rfl)
theorem dX6_rule_114 : decode cX6_rule 114 = .ok (.aload 7, 2) := dk_25 7 (dk_at dksX6_rule_4 19 rfl rfl)
theorem dX6_rule_116 : decode cX6_rule 116 = .ok (.aload_n 0, 1) := dk_42 (dk_at dksX6_rule_4 21 rfl rfl)
theorem dX6_rule_117 : decode cX6_rule 117 = .ok (.invokevirtual 46, 3) := dk_182 0 46 (dk_at dksX6_rule_5 0 rfl rfl)
theorem dX6_rule_120 : decode cX6_rule 120 = .ok (.invokespecial 76, 3) := dk_183 0 76 (dk_at dksX6_rule_5 3 rfl rfl)
theorem dX6_rule_123 : decode cX6_rule 123 = .ok (.areturn, 1) := dk_176 (dk_at dksX6_rule_5 6 rfl rfl)
abbrev cX6_pattern : ByteArray := prog_7_method_8_code
def yX6_pattern : MethodName := ⟨RX6, "pattern", "(I)LMatchmakerRules$Pattern;"⟩
def dkwX6_pattern_1 : List UInt8 := [4, 42, 27, 182, 0, 53, 79, 183, 0, 59, 176]
abbrev dktX6_pattern_1 : List UInt8 := dkwX6_pattern_1 ++ []
def dkwX6_pattern_0 : List UInt8 := [42, 182, 0, 49, 61, 42, 27, 182, 0, 53, 62, 187, 0, 57, 89, 28, 5, 188, 10, 89, 3, 29, 79, 89]
abbrev dktX6_pattern_0 : List UInt8 := dkwX6_pattern_0 ++ dktX6_pattern_1
theorem dksX6_pattern_0 : cX6_pattern.data.toList.drop 0 = dktX6_pattern_0 := by decide +kernel
theorem dksX6_pattern_1 : cX6_pattern.data.toList.drop 24 = dktX6_pattern_1 := dk_seg dksX6_pattern_0 24 rfl rfl
theorem dX6_pattern_0 : decode cX6_pattern 0 = .ok (.aload_n 0, 1) := dk_42 (dk_at dksX6_pattern_0 0 rfl rfl)
theorem dX6_pattern_1 : decode cX6_pattern 1 = .ok (.invokevirtual 49, 3) := dk_182 0 49 (dk_at dksX6_pattern_0 1 rfl rfl)
theorem dX6_pattern_4 : decode cX6_pattern 4 = .ok (.istore_n 2, 1) := dk_61 (dk_at dksX6_pattern_0 4 rfl rfl)
theorem dX6_pattern_5 : decode cX6_pattern 5 = .ok (.aload_n 0, 1) := dk_42 (dk_at dksX6_pattern_0 5 rfl rfl)
theorem dX6_pattern_6 : decode cX6_pattern 6 = .ok (.iload_n 1, 1) := dk_27 (dk_at dksX6_pattern_0 6 rfl rfl)
theorem dX6_pattern_7 : decode cX6_pattern 7 = .ok (.invokevirtual 53, 3) := dk_182 0 53 (dk_at dksX6_pattern_0 7 rfl rfl)
theorem dX6_pattern_10 : decode cX6_pattern 10 = .ok (.istore_n 3, 1) := dk_62 (dk_at dksX6_pattern_0 10 rfl rfl)
theorem dX6_pattern_11 : decode cX6_pattern 11 = .ok (.new 57, 3) := dk_187 0 57 (dk_at dksX6_pattern_0 11 rfl rfl)
theorem dX6_pattern_14 : decode cX6_pattern 14 = .ok (.dup, 1) := dk_89 (dk_at dksX6_pattern_0 14 rfl rfl)
theorem dX6_pattern_15 : decode cX6_pattern 15 = .ok (.iload_n 2, 1) := dk_28 (dk_at dksX6_pattern_0 15 rfl rfl)
theorem dX6_pattern_16 : decode cX6_pattern 16 = .ok (.iconst 2, 1) := dk_5 (dk_at dksX6_pattern_0 16 rfl rfl)
theorem dX6_pattern_17 : decode cX6_pattern 17 = .ok (.newarray .int, 2) := dk_188_10 (dk_at dksX6_pattern_0 17 rfl rfl)
theorem dX6_pattern_19 : decode cX6_pattern 19 = .ok (.dup, 1) := dk_89 (dk_at dksX6_pattern_0 19 rfl rfl)
theorem dX6_pattern_20 : decode cX6_pattern 20 = .ok (.iconst 0, 1) := dk_3 (dk_at dksX6_pattern_0 20 rfl rfl)
theorem dX6_pattern_21 : decode cX6_pattern 21 = .ok (.iload_n 3, 1) := dk_29 (dk_at dksX6_pattern_0 21 rfl rfl)
theorem dX6_pattern_22 : decode cX6_pattern 22 = .ok (.iastore, 1) := dk_79 (dk_at dksX6_pattern_0 22 rfl rfl)
theorem dX6_pattern_23 : decode cX6_pattern 23 = .ok (.dup, 1) := dk_89 (dk_at dksX6_pattern_0 23 rfl rfl)
theorem dX6_pattern_24 : decode cX6_pattern 24 = .ok (.iconst 1, 1) := dk_4 (dk_at dksX6_pattern_1 0 rfl rfl)
theorem dX6_pattern_25 : decode cX6_pattern 25 = .ok (.aload_n 0, 1) := dk_42 (dk_at dksX6_pattern_1 1 rfl rfl)
theorem dX6_pattern_26 : decode cX6_pattern 26 = .ok (.iload_n 1, 1) := dk_27 (dk_at dksX6_pattern_1 2 rfl rfl)
theorem dX6_pattern_27 : decode cX6_pattern 27 = .ok (.invokevirtual 53, 3) := dk_182 0 53 (dk_at dksX6_pattern_1 3 rfl rfl)
theorem dX6_pattern_30 : decode cX6_pattern 30 = .ok (.iastore, 1) := dk_79 (dk_at dksX6_pattern_1 6 rfl rfl)
theorem dX6_pattern_31 : decode cX6_pattern 31 = .ok (.invokespecial 59, 3) := dk_183 0 59 (dk_at dksX6_pattern_1 7 rfl rfl)
theorem dX6_pattern_34 : decode cX6_pattern 34 = .ok (.areturn, 1) := dk_176 (dk_at dksX6_pattern_1 10 rfl rfl)
abbrev cX6_kind : ByteArray := prog_7_method_6_code
def yX6_kind : MethodName := ⟨RX6, "kind", "()C"⟩
def dkwX6_kind_0 : List UInt8 := [16, 97, 42, 16, 97, 16, 102, 182, 0, 42, 96, 146, 172]
abbrev dktX6_kind_0 : List UInt8 := dkwX6_kind_0 ++ []
theorem dksX6_kind_0 : cX6_kind.data.toList.drop 0 = dktX6_kind_0 := by decide +kernel
theorem dX6_kind_0 : decode cX6_kind 0 = .ok (.bipush 97, 2) := dk_16 97 (dk_at dksX6_kind_0 0 rfl rfl)
theorem dX6_kind_2 : decode cX6_kind 2 = .ok (.aload_n 0, 1) := dk_42 (dk_at dksX6_kind_0 2 rfl rfl)
theorem dX6_kind_3 : decode cX6_kind 3 = .ok (.bipush 97, 2) := dk_16 97 (dk_at dksX6_kind_0 3 rfl rfl)
theorem dX6_kind_5 : decode cX6_kind 5 = .ok (.bipush 102, 2) := dk_16 102 (dk_at dksX6_kind_0 5 rfl rfl)
theorem dX6_kind_7 : decode cX6_kind 7 = .ok (.invokevirtual 42, 3) := dk_182 0 42 (dk_at dksX6_kind_0 7 rfl rfl)
theorem dX6_kind_10 : decode cX6_kind 10 = .ok (.iadd, 1) := dk_96 (dk_at dksX6_kind_0 10 rfl rfl)
theorem dX6_kind_11 : decode cX6_kind 11 = .ok (.i2c, 1) := dk_146 (dk_at dksX6_kind_0 11 rfl rfl)
theorem dX6_kind_12 : decode cX6_kind 12 = .ok (.ireturn, 1) := dk_172 (dk_at dksX6_kind_0 12 rfl rfl)
abbrev cX6_take : ByteArray := prog_7_method_3_code
def yX6_take : MethodName := ⟨RX6, "take", "(II)I"⟩
def dkwX6_take_2 : List UInt8 := [100, 172]
abbrev dktX6_take_2 : List UInt8 := dkwX6_take_2 ++ []
def dkwX6_take_1 : List UInt8 := [180, 0, 15, 4, 96, 181, 0, 15, 42, 180, 0, 9, 42, 180, 0, 15, 4, 100, 185, 0, 25, 2, 0, 27]
abbrev dktX6_take_1 : List UInt8 := dkwX6_take_1 ++ dktX6_take_2
def dkwX6_take_0 : List UInt8 := [42, 27, 28, 182, 0, 33, 154, 0, 15, 187, 0, 37, 89, 42, 180, 0, 15, 183, 0, 39, 191, 42, 89]
abbrev dktX6_take_0 : List UInt8 := dkwX6_take_0 ++ dktX6_take_1
theorem dksX6_take_0 : cX6_take.data.toList.drop 0 = dktX6_take_0 := by decide +kernel
theorem dksX6_take_1 : cX6_take.data.toList.drop 23 = dktX6_take_1 := dk_seg dksX6_take_0 23 rfl rfl
theorem dksX6_take_2 : cX6_take.data.toList.drop 47 = dktX6_take_2 := dk_seg dksX6_take_1 24 rfl rfl
theorem dX6_take_0 : decode cX6_take 0 = .ok (.aload_n 0, 1) := dk_42 (dk_at dksX6_take_0 0 rfl rfl)
theorem dX6_take_1 : decode cX6_take 1 = .ok (.iload_n 1, 1) := dk_27 (dk_at dksX6_take_0 1 rfl rfl)
theorem dX6_take_2 : decode cX6_take 2 = .ok (.iload_n 2, 1) := dk_28 (dk_at dksX6_take_0 2 rfl rfl)
theorem dX6_take_3 : decode cX6_take 3 = .ok (.invokevirtual 33, 3) := dk_182 0 33 (dk_at dksX6_take_0 3 rfl rfl)
theorem dX6_take_6 : decode cX6_take 6 = .ok (.ifCond .ne 15, 3) := dk_154 0 15 (dk_at dksX6_take_0 6 rfl rfl)
theorem dX6_take_9 : decode cX6_take 9 = .ok (.new 37, 3) := dk_187 0 37 (dk_at dksX6_take_0 9 rfl rfl)
theorem dX6_take_12 : decode cX6_take 12 = .ok (.dup, 1) := dk_89 (dk_at dksX6_take_0 12 rfl rfl)
theorem dX6_take_13 : decode cX6_take 13 = .ok (.aload_n 0, 1) := dk_42 (dk_at dksX6_take_0 13 rfl rfl)
theorem dX6_take_14 : decode cX6_take 14 = .ok (.getfield 15, 3) := dk_180 0 15 (dk_at dksX6_take_0 14 rfl rfl)
theorem dX6_take_17 : decode cX6_take 17 = .ok (.invokespecial 39, 3) := dk_183 0 39 (dk_at dksX6_take_0 17 rfl rfl)
theorem dX6_take_20 : decode cX6_take 20 = .ok (.athrow, 1) := dk_191 (dk_at dksX6_take_0 20 rfl rfl)
theorem dX6_take_21 : decode cX6_take 21 = .ok (.aload_n 0, 1) := dk_42 (dk_at dksX6_take_0 21 rfl rfl)
theorem dX6_take_22 : decode cX6_take 22 = .ok (.dup, 1) := dk_89 (dk_at dksX6_take_0 22 rfl rfl)
theorem dX6_take_23 : decode cX6_take 23 = .ok (.getfield 15, 3) := dk_180 0 15 (dk_at dksX6_take_1 0 rfl rfl)
theorem dX6_take_26 : decode cX6_take 26 = .ok (.iconst 1, 1) := dk_4 (dk_at dksX6_take_1 3 rfl rfl)
theorem dX6_take_27 : decode cX6_take 27 = .ok (.iadd, 1) := dk_96 (dk_at dksX6_take_1 4 rfl rfl)
theorem dX6_take_28 : decode cX6_take 28 = .ok (.putfield 15, 3) := dk_181 0 15 (dk_at dksX6_take_1 5 rfl rfl)
theorem dX6_take_31 : decode cX6_take 31 = .ok (.aload_n 0, 1) := dk_42 (dk_at dksX6_take_1 8 rfl rfl)
theorem dX6_take_32 : decode cX6_take 32 = .ok (.getfield 9, 3) := dk_180 0 9 (dk_at dksX6_take_1 9 rfl rfl)
theorem dX6_take_35 : decode cX6_take 35 = .ok (.aload_n 0, 1) := dk_42 (dk_at dksX6_take_1 12 rfl rfl)
theorem dX6_take_36 : decode cX6_take 36 = .ok (.getfield 15, 3) := dk_180 0 15 (dk_at dksX6_take_1 13 rfl rfl)
theorem dX6_take_39 : decode cX6_take 39 = .ok (.iconst 1, 1) := dk_4 (dk_at dksX6_take_1 16 rfl rfl)
theorem dX6_take_40 : decode cX6_take 40 = .ok (.isub, 1) := dk_100 (dk_at dksX6_take_1 17 rfl rfl)
theorem dX6_take_41 : decode cX6_take 41 = .ok (.invokeinterface 25 2, 5) := by decide +kernel
theorem dX6_take_46 : decode cX6_take 46 = .ok (.iload_n 1, 1) := dk_27 (dk_at dksX6_take_1 23 rfl rfl)
theorem dX6_take_47 : decode cX6_take 47 = .ok (.isub, 1) := dk_100 (dk_at dksX6_take_2 0 rfl rfl)
theorem dX6_take_48 : decode cX6_take 48 = .ok (.ireturn, 1) := dk_172 (dk_at dksX6_take_2 1 rfl rfl)
abbrev cX6_isNext : ByteArray := prog_7_method_2_code
def yX6_isNext : MethodName := ⟨RX6, "isNext", "(II)Z"⟩
def dkwX6_isNext_1 : List UInt8 := [185, 0, 25, 2, 0, 133, 27, 133, 28, 133, 184, 0, 29, 153, 0, 7, 4, 167, 0, 4, 3, 172]
abbrev dktX6_isNext_1 : List UInt8 := dkwX6_isNext_1 ++ []
def dkwX6_isNext_0 : List UInt8 := [42, 180, 0, 15, 42, 180, 0, 9, 185, 0, 19, 1, 0, 162, 0, 31, 42, 180, 0, 9, 42, 180, 0, 15]
abbrev dktX6_isNext_0 : List UInt8 := dkwX6_isNext_0 ++ dktX6_isNext_1
theorem dksX6_isNext_0 : cX6_isNext.data.toList.drop 0 = dktX6_isNext_0 := by decide +kernel
theorem dksX6_isNext_1 : cX6_isNext.data.toList.drop 24 = dktX6_isNext_1 := dk_seg dksX6_isNext_0 24 rfl rfl
theorem dX6_isNext_0 : decode cX6_isNext 0 = .ok (.aload_n 0, 1) := dk_42 (dk_at dksX6_isNext_0 0 rfl rfl)
theorem dX6_isNext_1 : decode cX6_isNext 1 = .ok (.getfield 15, 3) := dk_180 0 15 (dk_at dksX6_isNext_0 1 rfl rfl)
theorem dX6_isNext_4 : decode cX6_isNext 4 = .ok (.aload_n 0, 1) := dk_42 (dk_at dksX6_isNext_0 4 rfl rfl)
theorem dX6_isNext_5 : decode cX6_isNext 5 = .ok (.getfield 9, 3) := dk_180 0 9 (dk_at dksX6_isNext_0 5 rfl rfl)
theorem dX6_isNext_8 : decode cX6_isNext 8 = .ok (.invokeinterface 19 1, 5) := by decide +kernel
theorem dX6_isNext_13 : decode cX6_isNext 13 = .ok (.if_icmp .ge 31, 3) := dk_162 0 31 (dk_at dksX6_isNext_0 13 rfl rfl)
theorem dX6_isNext_16 : decode cX6_isNext 16 = .ok (.aload_n 0, 1) := dk_42 (dk_at dksX6_isNext_0 16 rfl rfl)
theorem dX6_isNext_17 : decode cX6_isNext 17 = .ok (.getfield 9, 3) := dk_180 0 9 (dk_at dksX6_isNext_0 17 rfl rfl)
theorem dX6_isNext_20 : decode cX6_isNext 20 = .ok (.aload_n 0, 1) := dk_42 (dk_at dksX6_isNext_0 20 rfl rfl)
theorem dX6_isNext_21 : decode cX6_isNext 21 = .ok (.getfield 15, 3) := dk_180 0 15 (dk_at dksX6_isNext_0 21 rfl rfl)
theorem dX6_isNext_24 : decode cX6_isNext 24 = .ok (.invokeinterface 25 2, 5) := by decide +kernel
theorem dX6_isNext_29 : decode cX6_isNext 29 = .ok (.i2l, 1) := dk_133 (dk_at dksX6_isNext_1 5 rfl rfl)
theorem dX6_isNext_30 : decode cX6_isNext 30 = .ok (.iload_n 1, 1) := dk_27 (dk_at dksX6_isNext_1 6 rfl rfl)
theorem dX6_isNext_31 : decode cX6_isNext 31 = .ok (.i2l, 1) := dk_133 (dk_at dksX6_isNext_1 7 rfl rfl)
theorem dX6_isNext_32 : decode cX6_isNext 32 = .ok (.iload_n 2, 1) := dk_28 (dk_at dksX6_isNext_1 8 rfl rfl)
theorem dX6_isNext_33 : decode cX6_isNext 33 = .ok (.i2l, 1) := dk_133 (dk_at dksX6_isNext_1 9 rfl rfl)
theorem dX6_isNext_34 : decode cX6_isNext 34 = .ok (.invokestatic 29, 3) := dk_184 0 29 (dk_at dksX6_isNext_1 10 rfl rfl)
theorem dX6_isNext_37 : decode cX6_isNext 37 = .ok (.ifCond .eq 7, 3) := dk_153 0 7 (dk_at dksX6_isNext_1 13 rfl rfl)
theorem dX6_isNext_40 : decode cX6_isNext 40 = .ok (.iconst 1, 1) := dk_4 (dk_at dksX6_isNext_1 16 rfl rfl)
theorem dX6_isNext_41 : decode cX6_isNext 41 = .ok (.goto 4, 3) := dk_167 0 4 (dk_at dksX6_isNext_1 17 rfl rfl)
theorem dX6_isNext_44 : decode cX6_isNext 44 = .ok (.iconst 0, 1) := dk_3 (dk_at dksX6_isNext_1 20 rfl rfl)
theorem dX6_isNext_45 : decode cX6_isNext 45 = .ok (.ireturn, 1) := dk_172 (dk_at dksX6_isNext_1 21 rfl rfl)
abbrev cX6_term : ByteArray := prog_7_method_7_code
def yX6_term : MethodName := ⟨RX6, "term", "(I)I"⟩
def dkwX6_term_2 : List UInt8 := [180, 0, 15, 183, 0, 39, 191, 42, 89, 180, 0, 15, 4, 96, 181, 0, 15, 16, 10, 28, 96, 172]
abbrev dktX6_term_2 : List UInt8 := dkwX6_term_2 ++ []
def dkwX6_term_1 : List UInt8 := [185, 0, 25, 2, 0, 16, 88, 100, 61, 27, 28, 122, 4, 126, 154, 0, 15, 187, 0, 37, 89, 42]
abbrev dktX6_term_1 : List UInt8 := dkwX6_term_1 ++ dktX6_term_2
def dkwX6_term_0 : List UInt8 := [42, 16, 88, 16, 90, 182, 0, 33, 154, 0, 8, 42, 182, 0, 46, 172, 42, 180, 0, 9, 42, 180, 0, 15]
abbrev dktX6_term_0 : List UInt8 := dkwX6_term_0 ++ dktX6_term_1
theorem dksX6_term_0 : cX6_term.data.toList.drop 0 = dktX6_term_0 := by decide +kernel
theorem dksX6_term_1 : cX6_term.data.toList.drop 24 = dktX6_term_1 := dk_seg dksX6_term_0 24 rfl rfl
theorem dksX6_term_2 : cX6_term.data.toList.drop 46 = dktX6_term_2 := dk_seg dksX6_term_1 22 rfl rfl
theorem dX6_term_0 : decode cX6_term 0 = .ok (.aload_n 0, 1) := dk_42 (dk_at dksX6_term_0 0 rfl rfl)
theorem dX6_term_1 : decode cX6_term 1 = .ok (.bipush 88, 2) := dk_16 88 (dk_at dksX6_term_0 1 rfl rfl)
theorem dX6_term_3 : decode cX6_term 3 = .ok (.bipush 90, 2) := dk_16 90 (dk_at dksX6_term_0 3 rfl rfl)
theorem dX6_term_5 : decode cX6_term 5 = .ok (.invokevirtual 33, 3) := dk_182 0 33 (dk_at dksX6_term_0 5 rfl rfl)
theorem dX6_term_8 : decode cX6_term 8 = .ok (.ifCond .ne 8, 3) := dk_154 0 8 (dk_at dksX6_term_0 8 rfl rfl)
theorem dX6_term_11 : decode cX6_term 11 = .ok (.aload_n 0, 1) := dk_42 (dk_at dksX6_term_0 11 rfl rfl)
theorem dX6_term_12 : decode cX6_term 12 = .ok (.invokevirtual 46, 3) := dk_182 0 46 (dk_at dksX6_term_0 12 rfl rfl)
theorem dX6_term_15 : decode cX6_term 15 = .ok (.ireturn, 1) := dk_172 (dk_at dksX6_term_0 15 rfl rfl)
theorem dX6_term_16 : decode cX6_term 16 = .ok (.aload_n 0, 1) := dk_42 (dk_at dksX6_term_0 16 rfl rfl)
theorem dX6_term_17 : decode cX6_term 17 = .ok (.getfield 9, 3) := dk_180 0 9 (dk_at dksX6_term_0 17 rfl rfl)
theorem dX6_term_20 : decode cX6_term 20 = .ok (.aload_n 0, 1) := dk_42 (dk_at dksX6_term_0 20 rfl rfl)
theorem dX6_term_21 : decode cX6_term 21 = .ok (.getfield 15, 3) := dk_180 0 15 (dk_at dksX6_term_0 21 rfl rfl)
theorem dX6_term_24 : decode cX6_term 24 = .ok (.invokeinterface 25 2, 5) := by decide +kernel
theorem dX6_term_29 : decode cX6_term 29 = .ok (.bipush 88, 2) := dk_16 88 (dk_at dksX6_term_1 5 rfl rfl)
theorem dX6_term_31 : decode cX6_term 31 = .ok (.isub, 1) := dk_100 (dk_at dksX6_term_1 7 rfl rfl)
theorem dX6_term_32 : decode cX6_term 32 = .ok (.istore_n 2, 1) := dk_61 (dk_at dksX6_term_1 8 rfl rfl)
theorem dX6_term_33 : decode cX6_term 33 = .ok (.iload_n 1, 1) := dk_27 (dk_at dksX6_term_1 9 rfl rfl)
theorem dX6_term_34 : decode cX6_term 34 = .ok (.iload_n 2, 1) := dk_28 (dk_at dksX6_term_1 10 rfl rfl)
theorem dX6_term_35 : decode cX6_term 35 = .ok (.ishr, 1) := dk_122 (dk_at dksX6_term_1 11 rfl rfl)
theorem dX6_term_36 : decode cX6_term 36 = .ok (.iconst 1, 1) := dk_4 (dk_at dksX6_term_1 12 rfl rfl)
theorem dX6_term_37 : decode cX6_term 37 = .ok (.iand, 1) := dk_126 (dk_at dksX6_term_1 13 rfl rfl)
theorem dX6_term_38 : decode cX6_term 38 = .ok (.ifCond .ne 15, 3) := dk_154 0 15 (dk_at dksX6_term_1 14 rfl rfl)
theorem dX6_term_41 : decode cX6_term 41 = .ok (.new 37, 3) := dk_187 0 37 (dk_at dksX6_term_1 17 rfl rfl)
theorem dX6_term_44 : decode cX6_term 44 = .ok (.dup, 1) := dk_89 (dk_at dksX6_term_1 20 rfl rfl)
theorem dX6_term_45 : decode cX6_term 45 = .ok (.aload_n 0, 1) := dk_42 (dk_at dksX6_term_1 21 rfl rfl)
theorem dX6_term_46 : decode cX6_term 46 = .ok (.getfield 15, 3) := dk_180 0 15 (dk_at dksX6_term_2 0 rfl rfl)
theorem dX6_term_49 : decode cX6_term 49 = .ok (.invokespecial 39, 3) := dk_183 0 39 (dk_at dksX6_term_2 3 rfl rfl)
theorem dX6_term_52 : decode cX6_term 52 = .ok (.athrow, 1) := dk_191 (dk_at dksX6_term_2 6 rfl rfl)
theorem dX6_term_53 : decode cX6_term 53 = .ok (.aload_n 0, 1) := dk_42 (dk_at dksX6_term_2 7 rfl rfl)
theorem dX6_term_54 : decode cX6_term 54 = .ok (.dup, 1) := dk_89 (dk_at dksX6_term_2 8 rfl rfl)
theorem dX6_term_55 : decode cX6_term 55 = .ok (.getfield 15, 3) := dk_180 0 15 (dk_at dksX6_term_2 9 rfl rfl)
theorem dX6_term_58 : decode cX6_term 58 = .ok (.iconst 1, 1) := dk_4 (dk_at dksX6_term_2 12 rfl rfl)
theorem dX6_term_59 : decode cX6_term 59 = .ok (.iadd, 1) := dk_96 (dk_at dksX6_term_2 13 rfl rfl)
theorem dX6_term_60 : decode cX6_term 60 = .ok (.putfield 15, 3) := dk_181 0 15 (dk_at dksX6_term_2 14 rfl rfl)
theorem dX6_term_63 : decode cX6_term 63 = .ok (.bipush 10, 2) := dk_16 10 (dk_at dksX6_term_2 17 rfl rfl)
theorem dX6_term_65 : decode cX6_term 65 = .ok (.iload_n 2, 1) := dk_28 (dk_at dksX6_term_2 19 rfl rfl)
theorem dX6_term_66 : decode cX6_term 66 = .ok (.iadd, 1) := dk_96 (dk_at dksX6_term_2 20 rfl rfl)
theorem dX6_term_67 : decode cX6_term 67 = .ok (.ireturn, 1) := dk_172 (dk_at dksX6_term_2 21 rfl rfl)
abbrev cX6_digit : ByteArray := prog_7_method_4_code
def yX6_digit : MethodName := ⟨RX6, "digit", "()I"⟩
def dkwX6_digit_0 : List UInt8 := [42, 16, 48, 16, 57, 182, 0, 42, 172]
abbrev dktX6_digit_0 : List UInt8 := dkwX6_digit_0 ++ []
theorem dksX6_digit_0 : cX6_digit.data.toList.drop 0 = dktX6_digit_0 := by decide +kernel
theorem dX6_digit_0 : decode cX6_digit 0 = .ok (.aload_n 0, 1) := dk_42 (dk_at dksX6_digit_0 0 rfl rfl)
theorem dX6_digit_1 : decode cX6_digit 1 = .ok (.bipush 48, 2) := dk_16 48 (dk_at dksX6_digit_0 1 rfl rfl)
theorem dX6_digit_3 : decode cX6_digit 3 = .ok (.bipush 57, 2) := dk_16 57 (dk_at dksX6_digit_0 3 rfl rfl)
theorem dX6_digit_5 : decode cX6_digit 5 = .ok (.invokevirtual 42, 3) := dk_182 0 42 (dk_at dksX6_digit_0 5 rfl rfl)
theorem dX6_digit_8 : decode cX6_digit 8 = .ok (.ireturn, 1) := dk_172 (dk_at dksX6_digit_0 8 rfl rfl)
abbrev cX6_variables : ByteArray := prog_7_method_9_code
def yX6_variables : MethodName := ⟨RX6, "variables", "(LMatchmakerRules$Pattern;)I"⟩
def dkwX6_variables_2 : List UInt8 := [60, 132, 4, 1, 167, 255, 218, 27, 172]
abbrev dktX6_variables_2 : List UInt8 := dkwX6_variables_2 ++ []
def dkwX6_variables_1 : List UInt8 := [54, 5, 27, 21, 5, 16, 9, 164, 0, 15, 4, 21, 5, 16, 9, 100, 4, 100, 120, 167, 0, 4, 3, 128]
abbrev dktX6_variables_1 : List UInt8 := dkwX6_variables_1 ++ dktX6_variables_2
def dkwX6_variables_0 : List UInt8 := [3, 60, 42, 180, 0, 62, 77, 44, 190, 62, 3, 54, 4, 21, 4, 29, 162, 0, 38, 44, 21, 4, 46]
abbrev dktX6_variables_0 : List UInt8 := dkwX6_variables_0 ++ dktX6_variables_1
theorem dksX6_variables_0 : cX6_variables.data.toList.drop 0 = dktX6_variables_0 := by decide +kernel
theorem dksX6_variables_1 : cX6_variables.data.toList.drop 23 = dktX6_variables_1 := dk_seg dksX6_variables_0 23 rfl rfl
theorem dksX6_variables_2 : cX6_variables.data.toList.drop 47 = dktX6_variables_2 := dk_seg dksX6_variables_1 24 rfl rfl
theorem dX6_variables_0 : decode cX6_variables 0 = .ok (.iconst 0, 1) := dk_3 (dk_at dksX6_variables_0 0 rfl rfl)
theorem dX6_variables_1 : decode cX6_variables 1 = .ok (.istore_n 1, 1) := dk_60 (dk_at dksX6_variables_0 1 rfl rfl)
theorem dX6_variables_2 : decode cX6_variables 2 = .ok (.aload_n 0, 1) := dk_42 (dk_at dksX6_variables_0 2 rfl rfl)
theorem dX6_variables_3 : decode cX6_variables 3 = .ok (.getfield 62, 3) := dk_180 0 62 (dk_at dksX6_variables_0 3 rfl rfl)
theorem dX6_variables_6 : decode cX6_variables 6 = .ok (.astore_n 2, 1) := dk_77 (dk_at dksX6_variables_0 6 rfl rfl)
theorem dX6_variables_7 : decode cX6_variables 7 = .ok (.aload_n 2, 1) := dk_44 (dk_at dksX6_variables_0 7 rfl rfl)
theorem dX6_variables_8 : decode cX6_variables 8 = .ok (.arraylength, 1) := dk_190 (dk_at dksX6_variables_0 8 rfl rfl)
theorem dX6_variables_9 : decode cX6_variables 9 = .ok (.istore_n 3, 1) := dk_62 (dk_at dksX6_variables_0 9 rfl rfl)
theorem dX6_variables_10 : decode cX6_variables 10 = .ok (.iconst 0, 1) := dk_3 (dk_at dksX6_variables_0 10 rfl rfl)
theorem dX6_variables_11 : decode cX6_variables 11 = .ok (.istore 4, 2) := dk_54 4 (dk_at dksX6_variables_0 11 rfl rfl)
theorem dX6_variables_13 : decode cX6_variables 13 = .ok (.iload 4, 2) := dk_21 4 (dk_at dksX6_variables_0 13 rfl rfl)
theorem dX6_variables_15 : decode cX6_variables 15 = .ok (.iload_n 3, 1) := dk_29 (dk_at dksX6_variables_0 15 rfl rfl)
theorem dX6_variables_16 : decode cX6_variables 16 = .ok (.if_icmp .ge 38, 3) := dk_162 0 38 (dk_at dksX6_variables_0 16 rfl rfl)
theorem dX6_variables_19 : decode cX6_variables 19 = .ok (.aload_n 2, 1) := dk_44 (dk_at dksX6_variables_0 19 rfl rfl)
theorem dX6_variables_20 : decode cX6_variables 20 = .ok (.iload 4, 2) := dk_21 4 (dk_at dksX6_variables_0 20 rfl rfl)
theorem dX6_variables_22 : decode cX6_variables 22 = .ok (.iaload, 1) := dk_46 (dk_at dksX6_variables_0 22 rfl rfl)
theorem dX6_variables_23 : decode cX6_variables 23 = .ok (.istore 5, 2) := dk_54 5 (dk_at dksX6_variables_1 0 rfl rfl)
theorem dX6_variables_25 : decode cX6_variables 25 = .ok (.iload_n 1, 1) := dk_27 (dk_at dksX6_variables_1 2 rfl rfl)
theorem dX6_variables_26 : decode cX6_variables 26 = .ok (.iload 5, 2) := dk_21 5 (dk_at dksX6_variables_1 3 rfl rfl)
theorem dX6_variables_28 : decode cX6_variables 28 = .ok (.bipush 9, 2) := dk_16 9 (dk_at dksX6_variables_1 5 rfl rfl)
theorem dX6_variables_30 : decode cX6_variables 30 = .ok (.if_icmp .le 15, 3) := dk_164 0 15 (dk_at dksX6_variables_1 7 rfl rfl)
theorem dX6_variables_33 : decode cX6_variables 33 = .ok (.iconst 1, 1) := dk_4 (dk_at dksX6_variables_1 10 rfl rfl)
theorem dX6_variables_34 : decode cX6_variables 34 = .ok (.iload 5, 2) := dk_21 5 (dk_at dksX6_variables_1 11 rfl rfl)
theorem dX6_variables_36 : decode cX6_variables 36 = .ok (.bipush 9, 2) := dk_16 9 (dk_at dksX6_variables_1 13 rfl rfl)
theorem dX6_variables_38 : decode cX6_variables 38 = .ok (.isub, 1) := dk_100 (dk_at dksX6_variables_1 15 rfl rfl)
theorem dX6_variables_39 : decode cX6_variables 39 = .ok (.iconst 1, 1) := dk_4 (dk_at dksX6_variables_1 16 rfl rfl)
theorem dX6_variables_40 : decode cX6_variables 40 = .ok (.isub, 1) := dk_100 (dk_at dksX6_variables_1 17 rfl rfl)
theorem dX6_variables_41 : decode cX6_variables 41 = .ok (.ishl, 1) := dk_120 (dk_at dksX6_variables_1 18 rfl rfl)
theorem dX6_variables_42 : decode cX6_variables 42 = .ok (.goto 4, 3) := dk_167 0 4 (dk_at dksX6_variables_1 19 rfl rfl)
theorem dX6_variables_45 : decode cX6_variables 45 = .ok (.iconst 0, 1) := dk_3 (dk_at dksX6_variables_1 22 rfl rfl)
theorem dX6_variables_46 : decode cX6_variables 46 = .ok (.ior, 1) := dk_128 (dk_at dksX6_variables_1 23 rfl rfl)
theorem dX6_variables_47 : decode cX6_variables 47 = .ok (.istore_n 1, 1) := dk_60 (dk_at dksX6_variables_2 0 rfl rfl)
theorem dX6_variables_48 : decode cX6_variables 48 = .ok (.iinc 4 1, 3) := dk_132 4 1 (dk_at dksX6_variables_2 1 rfl rfl)
theorem dX6_variables_51 : decode cX6_variables 51 = .ok (.goto (-38), 3) := dk_167 255 218 (dk_at dksX6_variables_2 4 rfl rfl)
theorem dX6_variables_54 : decode cX6_variables 54 = .ok (.iload_n 1, 1) := dk_27 (dk_at dksX6_variables_2 7 rfl rfl)
theorem dX6_variables_55 : decode cX6_variables 55 = .ok (.ireturn, 1) := dk_172 (dk_at dksX6_variables_2 8 rfl rfl)
abbrev cX6_items : ByteArray := prog_7_method_14_code
def yX6_items : MethodName := ⟨RX6, "items", "()Ljava/util/ArrayList;"⟩
def dkwX6_items_2 : List UInt8 := [182, 0, 99, 182, 0, 102, 61, 167, 255, 222, 43, 176]
abbrev dktX6_items_2 : List UInt8 := dkwX6_items_2 ++ []
def dkwX6_items_1 : List UInt8 := [180, 0, 9, 185, 0, 19, 1, 0, 162, 0, 24, 42, 16, 59, 16, 59, 182, 0, 42, 62, 43, 42]
abbrev dktX6_items_1 : List UInt8 := dkwX6_items_1 ++ dktX6_items_2
def dkwX6_items_0 : List UInt8 := [187, 0, 96, 89, 183, 0, 98, 76, 43, 42, 182, 0, 99, 182, 0, 102, 61, 42, 180, 0, 15, 42]
abbrev dktX6_items_0 : List UInt8 := dkwX6_items_0 ++ dktX6_items_1
theorem dksX6_items_0 : cX6_items.data.toList.drop 0 = dktX6_items_0 := by decide +kernel
theorem dksX6_items_1 : cX6_items.data.toList.drop 22 = dktX6_items_1 := dk_seg dksX6_items_0 22 rfl rfl
theorem dksX6_items_2 : cX6_items.data.toList.drop 44 = dktX6_items_2 := dk_seg dksX6_items_1 22 rfl rfl
theorem dX6_items_0 : decode cX6_items 0 = .ok (.new 96, 3) := dk_187 0 96 (dk_at dksX6_items_0 0 rfl rfl)
theorem dX6_items_3 : decode cX6_items 3 = .ok (.dup, 1) := dk_89 (dk_at dksX6_items_0 3 rfl rfl)
theorem dX6_items_4 : decode cX6_items 4 = .ok (.invokespecial 98, 3) := dk_183 0 98 (dk_at dksX6_items_0 4 rfl rfl)
theorem dX6_items_7 : decode cX6_items 7 = .ok (.astore_n 1, 1) := dk_76 (dk_at dksX6_items_0 7 rfl rfl)
theorem dX6_items_8 : decode cX6_items 8 = .ok (.aload_n 1, 1) := dk_43 (dk_at dksX6_items_0 8 rfl rfl)
theorem dX6_items_9 : decode cX6_items 9 = .ok (.aload_n 0, 1) := dk_42 (dk_at dksX6_items_0 9 rfl rfl)
theorem dX6_items_10 : decode cX6_items 10 = .ok (.invokevirtual 99, 3) := dk_182 0 99 (dk_at dksX6_items_0 10 rfl rfl)
theorem dX6_items_13 : decode cX6_items 13 = .ok (.invokevirtual 102, 3) := dk_182 0 102 (dk_at dksX6_items_0 13 rfl rfl)
theorem dX6_items_16 : decode cX6_items 16 = .ok (.istore_n 2, 1) := dk_61 (dk_at dksX6_items_0 16 rfl rfl)
theorem dX6_items_17 : decode cX6_items 17 = .ok (.aload_n 0, 1) := dk_42 (dk_at dksX6_items_0 17 rfl rfl)
theorem dX6_items_18 : decode cX6_items 18 = .ok (.getfield 15, 3) := dk_180 0 15 (dk_at dksX6_items_0 18 rfl rfl)
theorem dX6_items_21 : decode cX6_items 21 = .ok (.aload_n 0, 1) := dk_42 (dk_at dksX6_items_0 21 rfl rfl)
theorem dX6_items_22 : decode cX6_items 22 = .ok (.getfield 9, 3) := dk_180 0 9 (dk_at dksX6_items_1 0 rfl rfl)
theorem dX6_items_25 : decode cX6_items 25 = .ok (.invokeinterface 19 1, 5) := by decide +kernel
theorem dX6_items_30 : decode cX6_items 30 = .ok (.if_icmp .ge 24, 3) := dk_162 0 24 (dk_at dksX6_items_1 8 rfl rfl)
theorem dX6_items_33 : decode cX6_items 33 = .ok (.aload_n 0, 1) := dk_42 (dk_at dksX6_items_1 11 rfl rfl)
theorem dX6_items_34 : decode cX6_items 34 = .ok (.bipush 59, 2) := dk_16 59 (dk_at dksX6_items_1 12 rfl rfl)
theorem dX6_items_36 : decode cX6_items 36 = .ok (.bipush 59, 2) := dk_16 59 (dk_at dksX6_items_1 14 rfl rfl)
theorem dX6_items_38 : decode cX6_items 38 = .ok (.invokevirtual 42, 3) := dk_182 0 42 (dk_at dksX6_items_1 16 rfl rfl)
theorem dX6_items_41 : decode cX6_items 41 = .ok (.istore_n 3, 1) := dk_62 (dk_at dksX6_items_1 19 rfl rfl)
theorem dX6_items_42 : decode cX6_items 42 = .ok (.aload_n 1, 1) := dk_43 (dk_at dksX6_items_1 20 rfl rfl)
theorem dX6_items_43 : decode cX6_items 43 = .ok (.aload_n 0, 1) := dk_42 (dk_at dksX6_items_1 21 rfl rfl)
theorem dX6_items_44 : decode cX6_items 44 = .ok (.invokevirtual 99, 3) := dk_182 0 99 (dk_at dksX6_items_2 0 rfl rfl)
theorem dX6_items_47 : decode cX6_items 47 = .ok (.invokevirtual 102, 3) := dk_182 0 102 (dk_at dksX6_items_2 3 rfl rfl)
theorem dX6_items_50 : decode cX6_items 50 = .ok (.istore_n 2, 1) := dk_61 (dk_at dksX6_items_2 6 rfl rfl)
theorem dX6_items_51 : decode cX6_items 51 = .ok (.goto (-34), 3) := dk_167 255 222 (dk_at dksX6_items_2 7 rfl rfl)
theorem dX6_items_54 : decode cX6_items 54 = .ok (.aload_n 1, 1) := dk_43 (dk_at dksX6_items_2 10 rfl rfl)
theorem dX6_items_55 : decode cX6_items 55 = .ok (.areturn, 1) := dk_176 (dk_at dksX6_items_2 11 rfl rfl)
abbrev cX6_item : ByteArray := prog_7_method_13_code
def yX6_item : MethodName := ⟨RX6, "item", "()LMatchmakerRules$Change;"⟩
def dkwX6_item_4 : List UInt8 := [182, 0, 79, 183, 0, 93, 176, 187, 0, 37, 89, 27, 183, 0, 39, 191]
abbrev dktX6_item_4 : List UInt8 := dkwX6_item_4 ++ []
def dkwX6_item_3 : List UInt8 := [187, 0, 83, 89, 28, 4, 188, 10, 89, 3, 42, 182, 0, 46, 79, 183, 0, 88, 176, 187, 0, 83, 89, 42]
abbrev dktX6_item_3 : List UInt8 := dkwX6_item_3 ++ dktX6_item_4
def dkwX6_item_2 : List UInt8 := [42, 182, 0, 89, 176, 187, 0, 83, 89, 28, 4, 188, 10, 89, 3, 42, 182, 0, 85, 79, 183, 0, 88, 176]
abbrev dktX6_item_2 : List UInt8 := dkwX6_item_2 ++ dktX6_item_3
def dkwX6_item_1 : List UInt8 := [171, 0, 0, 0, 104, 0, 0, 0, 5, 0, 0, 0, 43, 0, 0, 0, 49, 0, 0, 0, 45, 0, 0, 0, 54, 0, 0, 0, 58, 0, 0, 0, 92, 0, 0, 0, 102, 0, 0, 0, 54, 0, 0, 0, 120, 0, 0, 0, 73]
abbrev dktX6_item_1 : List UInt8 := dkwX6_item_1 ++ dktX6_item_2
def dkwX6_item_0 : List UInt8 := [42, 180, 0, 15, 60, 42, 3, 16, 127, 182, 0, 42, 146, 61, 28]
abbrev dktX6_item_0 : List UInt8 := dkwX6_item_0 ++ dktX6_item_1
theorem dksX6_item_0 : cX6_item.data.toList.drop 0 = dktX6_item_0 := by decide +kernel
theorem dksX6_item_1 : cX6_item.data.toList.drop 15 = dktX6_item_1 := dk_seg dksX6_item_0 15 rfl rfl
theorem dksX6_item_2 : cX6_item.data.toList.drop 64 = dktX6_item_2 := dk_seg dksX6_item_1 49 rfl rfl
theorem dksX6_item_3 : cX6_item.data.toList.drop 88 = dktX6_item_3 := dk_seg dksX6_item_2 24 rfl rfl
theorem dksX6_item_4 : cX6_item.data.toList.drop 112 = dktX6_item_4 := dk_seg dksX6_item_3 24 rfl rfl
theorem dX6_item_0 : decode cX6_item 0 = .ok (.aload_n 0, 1) := dk_42 (dk_at dksX6_item_0 0 rfl rfl)
theorem dX6_item_1 : decode cX6_item 1 = .ok (.getfield 15, 3) := dk_180 0 15 (dk_at dksX6_item_0 1 rfl rfl)
theorem dX6_item_4 : decode cX6_item 4 = .ok (.istore_n 1, 1) := dk_60 (dk_at dksX6_item_0 4 rfl rfl)
theorem dX6_item_5 : decode cX6_item 5 = .ok (.aload_n 0, 1) := dk_42 (dk_at dksX6_item_0 5 rfl rfl)
theorem dX6_item_6 : decode cX6_item 6 = .ok (.iconst 0, 1) := dk_3 (dk_at dksX6_item_0 6 rfl rfl)
theorem dX6_item_7 : decode cX6_item 7 = .ok (.bipush 127, 2) := dk_16 127 (dk_at dksX6_item_0 7 rfl rfl)
theorem dX6_item_9 : decode cX6_item 9 = .ok (.invokevirtual 42, 3) := dk_182 0 42 (dk_at dksX6_item_0 9 rfl rfl)
theorem dX6_item_12 : decode cX6_item 12 = .ok (.i2c, 1) := dk_146 (dk_at dksX6_item_0 12 rfl rfl)
theorem dX6_item_13 : decode cX6_item 13 = .ok (.istore_n 2, 1) := dk_61 (dk_at dksX6_item_0 13 rfl rfl)
theorem dX6_item_14 : decode cX6_item 14 = .ok (.iload_n 2, 1) := dk_28 (dk_at dksX6_item_0 14 rfl rfl)
theorem dX6_item_15 : decode cX6_item 15 = .ok (.lookupswitch 104 #[(43, 49), (45, 54), (58, 92), (102, 54), (120, 73)], 49) := by decide +kernel
theorem dX6_item_64 : decode cX6_item 64 = .ok (.aload_n 0, 1) := dk_42 (dk_at dksX6_item_2 0 rfl rfl)
theorem dX6_item_65 : decode cX6_item 65 = .ok (.invokevirtual 89, 3) := dk_182 0 89 (dk_at dksX6_item_2 1 rfl rfl)
theorem dX6_item_68 : decode cX6_item 68 = .ok (.areturn, 1) := dk_176 (dk_at dksX6_item_2 4 rfl rfl)
theorem dX6_item_69 : decode cX6_item 69 = .ok (.new 83, 3) := dk_187 0 83 (dk_at dksX6_item_2 5 rfl rfl)
theorem dX6_item_72 : decode cX6_item 72 = .ok (.dup, 1) := dk_89 (dk_at dksX6_item_2 8 rfl rfl)
theorem dX6_item_73 : decode cX6_item 73 = .ok (.iload_n 2, 1) := dk_28 (dk_at dksX6_item_2 9 rfl rfl)
theorem dX6_item_74 : decode cX6_item 74 = .ok (.iconst 1, 1) := dk_4 (dk_at dksX6_item_2 10 rfl rfl)
theorem dX6_item_75 : decode cX6_item 75 = .ok (.newarray .int, 2) := dk_188_10 (dk_at dksX6_item_2 11 rfl rfl)
theorem dX6_item_77 : decode cX6_item 77 = .ok (.dup, 1) := dk_89 (dk_at dksX6_item_2 13 rfl rfl)
theorem dX6_item_78 : decode cX6_item 78 = .ok (.iconst 0, 1) := dk_3 (dk_at dksX6_item_2 14 rfl rfl)
theorem dX6_item_79 : decode cX6_item 79 = .ok (.aload_n 0, 1) := dk_42 (dk_at dksX6_item_2 15 rfl rfl)
theorem dX6_item_80 : decode cX6_item 80 = .ok (.invokevirtual 85, 3) := dk_182 0 85 (dk_at dksX6_item_2 16 rfl rfl)
theorem dX6_item_83 : decode cX6_item 83 = .ok (.iastore, 1) := dk_79 (dk_at dksX6_item_2 19 rfl rfl)
theorem dX6_item_84 : decode cX6_item 84 = .ok (.invokespecial 88, 3) := dk_183 0 88 (dk_at dksX6_item_2 20 rfl rfl)
theorem dX6_item_87 : decode cX6_item 87 = .ok (.areturn, 1) := dk_176 (dk_at dksX6_item_2 23 rfl rfl)
theorem dX6_item_88 : decode cX6_item 88 = .ok (.new 83, 3) := dk_187 0 83 (dk_at dksX6_item_3 0 rfl rfl)
theorem dX6_item_91 : decode cX6_item 91 = .ok (.dup, 1) := dk_89 (dk_at dksX6_item_3 3 rfl rfl)
theorem dX6_item_92 : decode cX6_item 92 = .ok (.iload_n 2, 1) := dk_28 (dk_at dksX6_item_3 4 rfl rfl)
theorem dX6_item_93 : decode cX6_item 93 = .ok (.iconst 1, 1) := dk_4 (dk_at dksX6_item_3 5 rfl rfl)
theorem dX6_item_94 : decode cX6_item 94 = .ok (.newarray .int, 2) := dk_188_10 (dk_at dksX6_item_3 6 rfl rfl)
theorem dX6_item_96 : decode cX6_item 96 = .ok (.dup, 1) := dk_89 (dk_at dksX6_item_3 8 rfl rfl)
theorem dX6_item_97 : decode cX6_item 97 = .ok (.iconst 0, 1) := dk_3 (dk_at dksX6_item_3 9 rfl rfl)
theorem dX6_item_98 : decode cX6_item 98 = .ok (.aload_n 0, 1) := dk_42 (dk_at dksX6_item_3 10 rfl rfl)
theorem dX6_item_99 : decode cX6_item 99 = .ok (.invokevirtual 46, 3) := dk_182 0 46 (dk_at dksX6_item_3 11 rfl rfl)
theorem dX6_item_102 : decode cX6_item 102 = .ok (.iastore, 1) := dk_79 (dk_at dksX6_item_3 14 rfl rfl)
theorem dX6_item_103 : decode cX6_item 103 = .ok (.invokespecial 88, 3) := dk_183 0 88 (dk_at dksX6_item_3 15 rfl rfl)
theorem dX6_item_106 : decode cX6_item 106 = .ok (.areturn, 1) := dk_176 (dk_at dksX6_item_3 18 rfl rfl)
theorem dX6_item_107 : decode cX6_item 107 = .ok (.new 83, 3) := dk_187 0 83 (dk_at dksX6_item_3 19 rfl rfl)
theorem dX6_item_110 : decode cX6_item 110 = .ok (.dup, 1) := dk_89 (dk_at dksX6_item_3 22 rfl rfl)
theorem dX6_item_111 : decode cX6_item 111 = .ok (.aload_n 0, 1) := dk_42 (dk_at dksX6_item_3 23 rfl rfl)
theorem dX6_item_112 : decode cX6_item 112 = .ok (.invokevirtual 79, 3) := dk_182 0 79 (dk_at dksX6_item_4 0 rfl rfl)
theorem dX6_item_115 : decode cX6_item 115 = .ok (.invokespecial 93, 3) := dk_183 0 93 (dk_at dksX6_item_4 3 rfl rfl)
theorem dX6_item_118 : decode cX6_item 118 = .ok (.areturn, 1) := dk_176 (dk_at dksX6_item_4 6 rfl rfl)
theorem dX6_item_119 : decode cX6_item 119 = .ok (.new 37, 3) := dk_187 0 37 (dk_at dksX6_item_4 7 rfl rfl)
theorem dX6_item_122 : decode cX6_item 122 = .ok (.dup, 1) := dk_89 (dk_at dksX6_item_4 10 rfl rfl)
theorem dX6_item_123 : decode cX6_item 123 = .ok (.iload_n 1, 1) := dk_27 (dk_at dksX6_item_4 11 rfl rfl)
theorem dX6_item_124 : decode cX6_item 124 = .ok (.invokespecial 39, 3) := dk_183 0 39 (dk_at dksX6_item_4 12 rfl rfl)
theorem dX6_item_127 : decode cX6_item 127 = .ok (.athrow, 1) := dk_191 (dk_at dksX6_item_4 15 rfl rfl)
abbrev cX6_fact : ByteArray := prog_7_method_12_code
def yX6_fact : MethodName := ⟨RX6, "fact", "()LMatchmakerRules$Change;"⟩
def dkwX6_fact_2 : List UInt8 := [6, 42, 182, 0, 85, 79, 183, 0, 88, 176]
abbrev dktX6_fact_2 : List UInt8 := dkwX6_fact_2 ++ []
def dkwX6_fact_1 : List UInt8 := [54, 4, 187, 0, 83, 89, 16, 43, 7, 188, 10, 89, 3, 27, 79, 89, 4, 28, 79, 89, 5, 29, 79, 89]
abbrev dktX6_fact_1 : List UInt8 := dkwX6_fact_1 ++ dktX6_fact_2
def dkwX6_fact_0 : List UInt8 := [42, 182, 0, 49, 60, 42, 182, 0, 46, 61, 42, 182, 0, 46, 62, 42, 16, 42, 16, 42, 182, 0, 42]
abbrev dktX6_fact_0 : List UInt8 := dkwX6_fact_0 ++ dktX6_fact_1
theorem dksX6_fact_0 : cX6_fact.data.toList.drop 0 = dktX6_fact_0 := by decide +kernel
theorem dksX6_fact_1 : cX6_fact.data.toList.drop 23 = dktX6_fact_1 := dk_seg dksX6_fact_0 23 rfl rfl
theorem dksX6_fact_2 : cX6_fact.data.toList.drop 47 = dktX6_fact_2 := dk_seg dksX6_fact_1 24 rfl rfl
theorem dX6_fact_0 : decode cX6_fact 0 = .ok (.aload_n 0, 1) := dk_42 (dk_at dksX6_fact_0 0 rfl rfl)
theorem dX6_fact_1 : decode cX6_fact 1 = .ok (.invokevirtual 49, 3) := dk_182 0 49 (dk_at dksX6_fact_0 1 rfl rfl)
theorem dX6_fact_4 : decode cX6_fact 4 = .ok (.istore_n 1, 1) := dk_60 (dk_at dksX6_fact_0 4 rfl rfl)
theorem dX6_fact_5 : decode cX6_fact 5 = .ok (.aload_n 0, 1) := dk_42 (dk_at dksX6_fact_0 5 rfl rfl)
theorem dX6_fact_6 : decode cX6_fact 6 = .ok (.invokevirtual 46, 3) := dk_182 0 46 (dk_at dksX6_fact_0 6 rfl rfl)
theorem dX6_fact_9 : decode cX6_fact 9 = .ok (.istore_n 2, 1) := dk_61 (dk_at dksX6_fact_0 9 rfl rfl)
theorem dX6_fact_10 : decode cX6_fact 10 = .ok (.aload_n 0, 1) := dk_42 (dk_at dksX6_fact_0 10 rfl rfl)
theorem dX6_fact_11 : decode cX6_fact 11 = .ok (.invokevirtual 46, 3) := dk_182 0 46 (dk_at dksX6_fact_0 11 rfl rfl)
theorem dX6_fact_14 : decode cX6_fact 14 = .ok (.istore_n 3, 1) := dk_62 (dk_at dksX6_fact_0 14 rfl rfl)
theorem dX6_fact_15 : decode cX6_fact 15 = .ok (.aload_n 0, 1) := dk_42 (dk_at dksX6_fact_0 15 rfl rfl)
theorem dX6_fact_16 : decode cX6_fact 16 = .ok (.bipush 42, 2) := dk_16 42 (dk_at dksX6_fact_0 16 rfl rfl)
theorem dX6_fact_18 : decode cX6_fact 18 = .ok (.bipush 42, 2) := dk_16 42 (dk_at dksX6_fact_0 18 rfl rfl)
theorem dX6_fact_20 : decode cX6_fact 20 = .ok (.invokevirtual 42, 3) := dk_182 0 42 (dk_at dksX6_fact_0 20 rfl rfl)
theorem dX6_fact_23 : decode cX6_fact 23 = .ok (.istore 4, 2) := dk_54 4 (dk_at dksX6_fact_1 0 rfl rfl)
theorem dX6_fact_25 : decode cX6_fact 25 = .ok (.new 83, 3) := dk_187 0 83 (dk_at dksX6_fact_1 2 rfl rfl)
theorem dX6_fact_28 : decode cX6_fact 28 = .ok (.dup, 1) := dk_89 (dk_at dksX6_fact_1 5 rfl rfl)
theorem dX6_fact_29 : decode cX6_fact 29 = .ok (.bipush 43, 2) := dk_16 43 (dk_at dksX6_fact_1 6 rfl rfl)
theorem dX6_fact_31 : decode cX6_fact 31 = .ok (.iconst 4, 1) := dk_7 (dk_at dksX6_fact_1 8 rfl rfl)
theorem dX6_fact_32 : decode cX6_fact 32 = .ok (.newarray .int, 2) := dk_188_10 (dk_at dksX6_fact_1 9 rfl rfl)
theorem dX6_fact_34 : decode cX6_fact 34 = .ok (.dup, 1) := dk_89 (dk_at dksX6_fact_1 11 rfl rfl)
theorem dX6_fact_35 : decode cX6_fact 35 = .ok (.iconst 0, 1) := dk_3 (dk_at dksX6_fact_1 12 rfl rfl)
theorem dX6_fact_36 : decode cX6_fact 36 = .ok (.iload_n 1, 1) := dk_27 (dk_at dksX6_fact_1 13 rfl rfl)
theorem dX6_fact_37 : decode cX6_fact 37 = .ok (.iastore, 1) := dk_79 (dk_at dksX6_fact_1 14 rfl rfl)
theorem dX6_fact_38 : decode cX6_fact 38 = .ok (.dup, 1) := dk_89 (dk_at dksX6_fact_1 15 rfl rfl)
theorem dX6_fact_39 : decode cX6_fact 39 = .ok (.iconst 1, 1) := dk_4 (dk_at dksX6_fact_1 16 rfl rfl)
theorem dX6_fact_40 : decode cX6_fact 40 = .ok (.iload_n 2, 1) := dk_28 (dk_at dksX6_fact_1 17 rfl rfl)
theorem dX6_fact_41 : decode cX6_fact 41 = .ok (.iastore, 1) := dk_79 (dk_at dksX6_fact_1 18 rfl rfl)
theorem dX6_fact_42 : decode cX6_fact 42 = .ok (.dup, 1) := dk_89 (dk_at dksX6_fact_1 19 rfl rfl)
theorem dX6_fact_43 : decode cX6_fact 43 = .ok (.iconst 2, 1) := dk_5 (dk_at dksX6_fact_1 20 rfl rfl)
theorem dX6_fact_44 : decode cX6_fact 44 = .ok (.iload_n 3, 1) := dk_29 (dk_at dksX6_fact_1 21 rfl rfl)
theorem dX6_fact_45 : decode cX6_fact 45 = .ok (.iastore, 1) := dk_79 (dk_at dksX6_fact_1 22 rfl rfl)
theorem dX6_fact_46 : decode cX6_fact 46 = .ok (.dup, 1) := dk_89 (dk_at dksX6_fact_1 23 rfl rfl)
theorem dX6_fact_47 : decode cX6_fact 47 = .ok (.iconst 3, 1) := dk_6 (dk_at dksX6_fact_2 0 rfl rfl)
theorem dX6_fact_48 : decode cX6_fact 48 = .ok (.aload_n 0, 1) := dk_42 (dk_at dksX6_fact_2 1 rfl rfl)
theorem dX6_fact_49 : decode cX6_fact 49 = .ok (.invokevirtual 85, 3) := dk_182 0 85 (dk_at dksX6_fact_2 2 rfl rfl)
theorem dX6_fact_52 : decode cX6_fact 52 = .ok (.iastore, 1) := dk_79 (dk_at dksX6_fact_2 5 rfl rfl)
theorem dX6_fact_53 : decode cX6_fact 53 = .ok (.invokespecial 88, 3) := dk_183 0 88 (dk_at dksX6_fact_2 6 rfl rfl)
theorem dX6_fact_56 : decode cX6_fact 56 = .ok (.areturn, 1) := dk_176 (dk_at dksX6_fact_2 9 rfl rfl)
abbrev cX6_number : ByteArray := prog_7_method_5_code
def yX6_number : MethodName := ⟨RX6, "number", "()I"⟩
def dkwX6_number_1 : List UInt8 := [153, 0, 19, 16, 10, 27, 104, 42, 182, 0, 46, 96, 60, 132, 2, 1, 167, 255, 223, 27, 172]
abbrev dktX6_number_1 : List UInt8 := dkwX6_number_1 ++ []
def dkwX6_number_0 : List UInt8 := [42, 182, 0, 46, 60, 4, 61, 28, 6, 162, 0, 34, 27, 158, 0, 30, 42, 16, 48, 16, 57, 182, 0, 33]
abbrev dktX6_number_0 : List UInt8 := dkwX6_number_0 ++ dktX6_number_1
theorem dksX6_number_0 : cX6_number.data.toList.drop 0 = dktX6_number_0 := by decide +kernel
theorem dksX6_number_1 : cX6_number.data.toList.drop 24 = dktX6_number_1 := dk_seg dksX6_number_0 24 rfl rfl
theorem dX6_number_0 : decode cX6_number 0 = .ok (.aload_n 0, 1) := dk_42 (dk_at dksX6_number_0 0 rfl rfl)
theorem dX6_number_1 : decode cX6_number 1 = .ok (.invokevirtual 46, 3) := dk_182 0 46 (dk_at dksX6_number_0 1 rfl rfl)
theorem dX6_number_4 : decode cX6_number 4 = .ok (.istore_n 1, 1) := dk_60 (dk_at dksX6_number_0 4 rfl rfl)
theorem dX6_number_5 : decode cX6_number 5 = .ok (.iconst 1, 1) := dk_4 (dk_at dksX6_number_0 5 rfl rfl)
theorem dX6_number_6 : decode cX6_number 6 = .ok (.istore_n 2, 1) := dk_61 (dk_at dksX6_number_0 6 rfl rfl)
theorem dX6_number_7 : decode cX6_number 7 = .ok (.iload_n 2, 1) := dk_28 (dk_at dksX6_number_0 7 rfl rfl)
theorem dX6_number_8 : decode cX6_number 8 = .ok (.iconst 3, 1) := dk_6 (dk_at dksX6_number_0 8 rfl rfl)
theorem dX6_number_9 : decode cX6_number 9 = .ok (.if_icmp .ge 34, 3) := dk_162 0 34 (dk_at dksX6_number_0 9 rfl rfl)
theorem dX6_number_12 : decode cX6_number 12 = .ok (.iload_n 1, 1) := dk_27 (dk_at dksX6_number_0 12 rfl rfl)
theorem dX6_number_13 : decode cX6_number 13 = .ok (.ifCond .le 30, 3) := dk_158 0 30 (dk_at dksX6_number_0 13 rfl rfl)
theorem dX6_number_16 : decode cX6_number 16 = .ok (.aload_n 0, 1) := dk_42 (dk_at dksX6_number_0 16 rfl rfl)
theorem dX6_number_17 : decode cX6_number 17 = .ok (.bipush 48, 2) := dk_16 48 (dk_at dksX6_number_0 17 rfl rfl)
theorem dX6_number_19 : decode cX6_number 19 = .ok (.bipush 57, 2) := dk_16 57 (dk_at dksX6_number_0 19 rfl rfl)
theorem dX6_number_21 : decode cX6_number 21 = .ok (.invokevirtual 33, 3) := dk_182 0 33 (dk_at dksX6_number_0 21 rfl rfl)
theorem dX6_number_24 : decode cX6_number 24 = .ok (.ifCond .eq 19, 3) := dk_153 0 19 (dk_at dksX6_number_1 0 rfl rfl)
theorem dX6_number_27 : decode cX6_number 27 = .ok (.bipush 10, 2) := dk_16 10 (dk_at dksX6_number_1 3 rfl rfl)
theorem dX6_number_29 : decode cX6_number 29 = .ok (.iload_n 1, 1) := dk_27 (dk_at dksX6_number_1 5 rfl rfl)
theorem dX6_number_30 : decode cX6_number 30 = .ok (.imul, 1) := dk_104 (dk_at dksX6_number_1 6 rfl rfl)
theorem dX6_number_31 : decode cX6_number 31 = .ok (.aload_n 0, 1) := dk_42 (dk_at dksX6_number_1 7 rfl rfl)
theorem dX6_number_32 : decode cX6_number 32 = .ok (.invokevirtual 46, 3) := dk_182 0 46 (dk_at dksX6_number_1 8 rfl rfl)
theorem dX6_number_35 : decode cX6_number 35 = .ok (.iadd, 1) := dk_96 (dk_at dksX6_number_1 11 rfl rfl)
theorem dX6_number_36 : decode cX6_number 36 = .ok (.istore_n 1, 1) := dk_60 (dk_at dksX6_number_1 12 rfl rfl)
theorem dX6_number_37 : decode cX6_number 37 = .ok (.iinc 2 1, 3) := dk_132 2 1 (dk_at dksX6_number_1 13 rfl rfl)
theorem dX6_number_40 : decode cX6_number 40 = .ok (.goto (-33), 3) := dk_167 255 223 (dk_at dksX6_number_1 16 rfl rfl)
theorem dX6_number_43 : decode cX6_number 43 = .ok (.iload_n 1, 1) := dk_27 (dk_at dksX6_number_1 19 rfl rfl)
theorem dX6_number_44 : decode cX6_number 44 = .ok (.ireturn, 1) := dk_172 (dk_at dksX6_number_1 20 rfl rfl)
theorem q110 : (Jvm.Cond.initialized "MatchmakerRules$Parser") ∈ lw_all := lw_g (lw_at lw_m1 14 rfl) rfl
theorem q587 : (Jvm.Cond.selects "MatchmakerRules$Parser" ({ cls := "java/lang/Object", name := "equals", desc := "(Ljava/lang/Object;)Z" } : Jvm.MethodName) ({ cls := "java/lang/Object", name := "equals", desc := "(Ljava/lang/Object;)Z" } : Jvm.MethodName)) ∈ lw_all := lw_g (lw_at lw_m3 11 rfl) rfl
theorem q670 : (Jvm.Cond.instantiable "MatchmakerRules$Parser" (2 : Nat)) ∈ lw_all := lw_g (lw_at lw_m3 94 rfl) rfl
theorem q672 : (Jvm.Cond.instanceMethod ({ cls := "MatchmakerRules$Parser", name := "<init>", desc := "(Ljava/lang/CharSequence;)V" } : Jvm.MethodName)) ∈ lw_all := lw_g (lw_at lw_m3 96 rfl) rfl
theorem q673 : (Jvm.Cond.code ({ cls := "MatchmakerRules$Parser", name := "<init>", desc := "(Ljava/lang/CharSequence;)V" } : Jvm.MethodName) prog_7_method_1_code (2 : Nat) (Option.none : Option Jvm.ClassFile.FieldType)) ∈ lw_all := lw_g (lw_at lw_m3 97 rfl) rfl
theorem q674 : (Jvm.Cond.methodLink "MatchmakerRules$Parser" (3 : Nat) ({ cls := "java/lang/Object", name := "<init>", desc := "()V" } : Jvm.MethodName)) ∈ lw_all := lw_g (lw_at lw_m3 98 rfl) rfl
theorem q675 : (Jvm.Cond.fieldLink "MatchmakerRules$Parser" (9 : Nat) "MatchmakerRules$Parser" "text" "Ljava/lang/CharSequence;") ∈ lw_all := lw_g (lw_at lw_m3 99 rfl) rfl
theorem q676 : (Jvm.Cond.fieldLink "MatchmakerRules$Parser" (15 : Nat) "MatchmakerRules$Parser" "position" "I") ∈ lw_all := lw_g (lw_at lw_m3 100 rfl) rfl
theorem q677 : (Jvm.Cond.laysFinal "MatchmakerRules$Parser" "MatchmakerRules$Parser" "text" "Ljava/lang/CharSequence;") ∈ lw_all := lw_g (lw_at lw_m3 101 rfl) rfl
theorem q678 : (Jvm.Cond.soleField "MatchmakerRules$Parser" "text") ∈ lw_all := lw_g (lw_at lw_m3 102 rfl) rfl
theorem q679 : (Jvm.Cond.lays "MatchmakerRules$Parser" "MatchmakerRules$Parser" "position" "I") ∈ lw_all := lw_g (lw_at lw_m3 103 rfl) rfl
theorem q680 : (Jvm.Cond.soleField "MatchmakerRules$Parser" "position") ∈ lw_all := lw_g (lw_at lw_m3 104 rfl) rfl
theorem q681 : (Jvm.Cond.superclass "MatchmakerRules$Parser" "java/lang/Object") ∈ lw_all := lw_g (lw_at lw_m3 105 rfl) rfl
theorem q683 : (Jvm.Cond.instanceMethod ({ cls := "MatchmakerRules$Parser", name := "wholeRule", desc := "()LMatchmakerRules$Rule;" } : Jvm.MethodName)) ∈ lw_all := lw_g (lw_at lw_m3 107 rfl) rfl
theorem q684 : (Jvm.Cond.selects "MatchmakerRules$Parser" ({ cls := "MatchmakerRules$Parser", name := "wholeRule", desc := "()LMatchmakerRules$Rule;" } : Jvm.MethodName) ({ cls := "MatchmakerRules$Parser", name := "wholeRule", desc := "()LMatchmakerRules$Rule;" } : Jvm.MethodName)) ∈ lw_all := lw_g (lw_at lw_m3 108 rfl) rfl
theorem q685 : (Jvm.Cond.code ({ cls := "MatchmakerRules$Parser", name := "wholeRule", desc := "()LMatchmakerRules$Rule;" } : Jvm.MethodName) prog_7_method_11_code (2 : Nat) (Option.some (Jvm.ClassFile.FieldType.object "MatchmakerRules$Rule"))) ∈ lw_all := lw_g (lw_at lw_m3 109 rfl) rfl
theorem q686 : (Jvm.Cond.methodLink "MatchmakerRules$Parser" (79 : Nat) ({ cls := "MatchmakerRules$Parser", name := "rule", desc := "()LMatchmakerRules$Rule;" } : Jvm.MethodName)) ∈ lw_all := lw_g (lw_at lw_m3 110 rfl) rfl
theorem q687 : (Jvm.Cond.instanceMethod ({ cls := "MatchmakerRules$Parser", name := "rule", desc := "()LMatchmakerRules$Rule;" } : Jvm.MethodName)) ∈ lw_all := lw_g (lw_at lw_m3 111 rfl) rfl
theorem q688 : (Jvm.Cond.selects "MatchmakerRules$Parser" ({ cls := "MatchmakerRules$Parser", name := "rule", desc := "()LMatchmakerRules$Rule;" } : Jvm.MethodName) ({ cls := "MatchmakerRules$Parser", name := "rule", desc := "()LMatchmakerRules$Rule;" } : Jvm.MethodName)) ∈ lw_all := lw_g (lw_at lw_m3 112 rfl) rfl
theorem q689 : (Jvm.Cond.code ({ cls := "MatchmakerRules$Parser", name := "rule", desc := "()LMatchmakerRules$Rule;" } : Jvm.MethodName) prog_7_method_10_code (8 : Nat) (Option.some (Jvm.ClassFile.FieldType.object "MatchmakerRules$Rule"))) ∈ lw_all := lw_g (lw_at lw_m3 113 rfl) rfl
theorem q690 : (Jvm.Cond.methodLink "MatchmakerRules$Parser" (66 : Nat) ({ cls := "MatchmakerRules$Parser", name := "pattern", desc := "(I)LMatchmakerRules$Pattern;" } : Jvm.MethodName)) ∈ lw_all := lw_g (lw_at lw_m3 114 rfl) rfl
theorem q691 : (Jvm.Cond.privateMethod ({ cls := "MatchmakerRules$Parser", name := "pattern", desc := "(I)LMatchmakerRules$Pattern;" } : Jvm.MethodName)) ∈ lw_tbl := lw_at lw_m3 115 rfl
theorem q692 : (Jvm.Cond.instanceMethod ({ cls := "MatchmakerRules$Parser", name := "pattern", desc := "(I)LMatchmakerRules$Pattern;" } : Jvm.MethodName)) ∈ lw_all := lw_g (lw_at lw_m3 116 rfl) rfl
theorem q693 : (Jvm.Cond.code ({ cls := "MatchmakerRules$Parser", name := "pattern", desc := "(I)LMatchmakerRules$Pattern;" } : Jvm.MethodName) prog_7_method_8_code (4 : Nat) (Option.some (Jvm.ClassFile.FieldType.object "MatchmakerRules$Pattern"))) ∈ lw_all := lw_g (lw_at lw_m3 117 rfl) rfl
theorem q694 : (Jvm.Cond.methodLink "MatchmakerRules$Parser" (49 : Nat) ({ cls := "MatchmakerRules$Parser", name := "kind", desc := "()C" } : Jvm.MethodName)) ∈ lw_all := lw_g (lw_at lw_m3 118 rfl) rfl
theorem q695 : (Jvm.Cond.privateMethod ({ cls := "MatchmakerRules$Parser", name := "kind", desc := "()C" } : Jvm.MethodName)) ∈ lw_tbl := lw_at lw_m3 119 rfl
theorem q696 : (Jvm.Cond.instanceMethod ({ cls := "MatchmakerRules$Parser", name := "kind", desc := "()C" } : Jvm.MethodName)) ∈ lw_all := lw_g (lw_at lw_m3 120 rfl) rfl
theorem q697 : (Jvm.Cond.code ({ cls := "MatchmakerRules$Parser", name := "kind", desc := "()C" } : Jvm.MethodName) prog_7_method_6_code (1 : Nat) (Option.some Jvm.ClassFile.FieldType.char)) ∈ lw_all := lw_g (lw_at lw_m3 121 rfl) rfl
theorem q698 : (Jvm.Cond.methodLink "MatchmakerRules$Parser" (42 : Nat) ({ cls := "MatchmakerRules$Parser", name := "take", desc := "(II)I" } : Jvm.MethodName)) ∈ lw_all := lw_g (lw_at lw_m3 122 rfl) rfl
theorem q699 : (Jvm.Cond.privateMethod ({ cls := "MatchmakerRules$Parser", name := "take", desc := "(II)I" } : Jvm.MethodName)) ∈ lw_tbl := lw_at lw_m3 123 rfl
theorem q700 : (Jvm.Cond.instanceMethod ({ cls := "MatchmakerRules$Parser", name := "take", desc := "(II)I" } : Jvm.MethodName)) ∈ lw_all := lw_g (lw_at lw_m3 124 rfl) rfl
theorem q701 : (Jvm.Cond.code ({ cls := "MatchmakerRules$Parser", name := "take", desc := "(II)I" } : Jvm.MethodName) prog_7_method_3_code (3 : Nat) (Option.some Jvm.ClassFile.FieldType.int)) ∈ lw_all := lw_g (lw_at lw_m3 125 rfl) rfl
theorem q702 : (Jvm.Cond.methodLink "MatchmakerRules$Parser" (33 : Nat) ({ cls := "MatchmakerRules$Parser", name := "isNext", desc := "(II)Z" } : Jvm.MethodName)) ∈ lw_all := lw_g (lw_at lw_m3 126 rfl) rfl
theorem q703 : (Jvm.Cond.privateMethod ({ cls := "MatchmakerRules$Parser", name := "isNext", desc := "(II)Z" } : Jvm.MethodName)) ∈ lw_tbl := lw_at lw_m3 127 rfl
theorem q704 : (Jvm.Cond.instanceMethod ({ cls := "MatchmakerRules$Parser", name := "isNext", desc := "(II)Z" } : Jvm.MethodName)) ∈ lw_all := lw_g (lw_at lw_m3 128 rfl) rfl
theorem q705 : (Jvm.Cond.code ({ cls := "MatchmakerRules$Parser", name := "isNext", desc := "(II)Z" } : Jvm.MethodName) prog_7_method_2_code (3 : Nat) (Option.some Jvm.ClassFile.FieldType.boolean)) ∈ lw_all := lw_g (lw_at lw_m3 129 rfl) rfl
theorem q706 : (Jvm.Cond.interfaceEntry "MatchmakerRules$Parser" (19 : Nat)) ∈ lw_tbl := lw_at lw_m3 130 rfl
theorem q707 : (Jvm.Cond.methodLink "MatchmakerRules$Parser" (19 : Nat) ({ cls := "java/lang/CharSequence", name := "length", desc := "()I" } : Jvm.MethodName)) ∈ lw_all := lw_g (lw_at lw_m3 131 rfl) rfl
theorem q729 : (Jvm.Cond.interfaceEntry "MatchmakerRules$Parser" (25 : Nat)) ∈ lw_tbl := lw_at lw_m3 153 rfl
theorem q730 : (Jvm.Cond.methodLink "MatchmakerRules$Parser" (25 : Nat) ({ cls := "java/lang/CharSequence", name := "charAt", desc := "(I)C" } : Jvm.MethodName)) ∈ lw_all := lw_g (lw_at lw_m3 154 rfl) rfl
theorem q781 : (Jvm.Cond.methodLinkNest "MatchmakerRules$Parser" (29 : Nat) ({ cls := "MatchmakerRules", name := "inRange", desc := "(JJJ)Z" } : Jvm.MethodName) "MatchmakerRules") ∈ lw_tbl := lw_at lw_m3 205 rfl
theorem q784 : (Jvm.Cond.classLink "MatchmakerRules$Parser" (37 : Nat) "MatchmakerRules$SyntaxException") ∈ lw_all := lw_g (lw_at lw_m3 208 rfl) rfl
theorem q793 : (Jvm.Cond.methodLink "MatchmakerRules$Parser" (39 : Nat) ({ cls := "MatchmakerRules$SyntaxException", name := "<init>", desc := "(I)V" } : Jvm.MethodName)) ∈ lw_all := lw_g (lw_at lw_m3 217 rfl) rfl
theorem q808 : (Jvm.Cond.methodLink "MatchmakerRules$Parser" (53 : Nat) ({ cls := "MatchmakerRules$Parser", name := "term", desc := "(I)I" } : Jvm.MethodName)) ∈ lw_all := lw_g (lw_at lw_m3 232 rfl) rfl
theorem q809 : (Jvm.Cond.privateMethod ({ cls := "MatchmakerRules$Parser", name := "term", desc := "(I)I" } : Jvm.MethodName)) ∈ lw_tbl := lw_at lw_m3 233 rfl
theorem q810 : (Jvm.Cond.instanceMethod ({ cls := "MatchmakerRules$Parser", name := "term", desc := "(I)I" } : Jvm.MethodName)) ∈ lw_all := lw_g (lw_at lw_m3 234 rfl) rfl
theorem q811 : (Jvm.Cond.code ({ cls := "MatchmakerRules$Parser", name := "term", desc := "(I)I" } : Jvm.MethodName) prog_7_method_7_code (3 : Nat) (Option.some Jvm.ClassFile.FieldType.int)) ∈ lw_all := lw_g (lw_at lw_m3 235 rfl) rfl
theorem q812 : (Jvm.Cond.methodLink "MatchmakerRules$Parser" (46 : Nat) ({ cls := "MatchmakerRules$Parser", name := "digit", desc := "()I" } : Jvm.MethodName)) ∈ lw_all := lw_g (lw_at lw_m3 236 rfl) rfl
theorem q813 : (Jvm.Cond.privateMethod ({ cls := "MatchmakerRules$Parser", name := "digit", desc := "()I" } : Jvm.MethodName)) ∈ lw_tbl := lw_at lw_m3 237 rfl
theorem q814 : (Jvm.Cond.instanceMethod ({ cls := "MatchmakerRules$Parser", name := "digit", desc := "()I" } : Jvm.MethodName)) ∈ lw_all := lw_g (lw_at lw_m3 238 rfl) rfl
theorem q815 : (Jvm.Cond.code ({ cls := "MatchmakerRules$Parser", name := "digit", desc := "()I" } : Jvm.MethodName) prog_7_method_4_code (1 : Nat) (Option.some Jvm.ClassFile.FieldType.int)) ∈ lw_all := lw_g (lw_at lw_m3 239 rfl) rfl
theorem q816 : (Jvm.Cond.classLink "MatchmakerRules$Parser" (57 : Nat) "MatchmakerRules$Pattern") ∈ lw_all := lw_g (lw_at lw_m4 0 rfl) rfl
theorem q817 : (Jvm.Cond.methodLink "MatchmakerRules$Parser" (59 : Nat) ({ cls := "MatchmakerRules$Pattern", name := "<init>", desc := "(C[I)V" } : Jvm.MethodName)) ∈ lw_all := lw_g (lw_at lw_m4 1 rfl) rfl
theorem q831 : (Jvm.Cond.fieldLinkNest "MatchmakerRules$Parser" (62 : Nat) "MatchmakerRules$Pattern" "terms" "[I" "MatchmakerRules") ∈ lw_tbl := lw_at lw_m4 15 rfl
theorem q837 : (Jvm.Cond.methodLink "MatchmakerRules$Parser" (70 : Nat) ({ cls := "MatchmakerRules$Parser", name := "variables", desc := "(LMatchmakerRules$Pattern;)I" } : Jvm.MethodName)) ∈ lw_all := lw_g (lw_at lw_m4 21 rfl) rfl
theorem q838 : (Jvm.Cond.static ({ cls := "MatchmakerRules$Parser", name := "variables", desc := "(LMatchmakerRules$Pattern;)I" } : Jvm.MethodName)) ∈ lw_all := lw_g (lw_at lw_m4 22 rfl) rfl
theorem q839 : (Jvm.Cond.code ({ cls := "MatchmakerRules$Parser", name := "variables", desc := "(LMatchmakerRules$Pattern;)I" } : Jvm.MethodName) prog_7_method_9_code (6 : Nat) (Option.some Jvm.ClassFile.FieldType.int)) ∈ lw_all := lw_g (lw_at lw_m4 23 rfl) rfl
theorem q840 : (Jvm.Cond.classLink "MatchmakerRules$Parser" (74 : Nat) "MatchmakerRules$Rule") ∈ lw_all := lw_g (lw_at lw_m4 24 rfl) rfl
theorem q842 : (Jvm.Cond.methodLink "MatchmakerRules$Parser" (76 : Nat) ({ cls := "MatchmakerRules$Rule", name := "<init>", desc := "(LMatchmakerRules$Pattern;LMatchmakerRules$Pattern;ZLMatchmakerRules$Pattern;I)V" } : Jvm.MethodName)) ∈ lw_all := lw_g (lw_at lw_m4 26 rfl) rfl
theorem q945 : (Jvm.Cond.selects "MatchmakerRules$Parser" ({ cls := "java/lang/Object", name := "getClass", desc := "()Ljava/lang/Class;" } : Jvm.MethodName) ({ cls := "java/lang/Object", name := "getClass", desc := "()Ljava/lang/Class;" } : Jvm.MethodName)) ∈ lw_all := lw_g (lw_at lw_m4 129 rfl) rfl
theorem q1913 : (Jvm.Cond.instanceMethod ({ cls := "MatchmakerRules$Parser", name := "items", desc := "()Ljava/util/ArrayList;" } : Jvm.MethodName)) ∈ lw_all := lw_g (lw_at lw_m8 137 rfl) rfl
theorem q1914 : (Jvm.Cond.selects "MatchmakerRules$Parser" ({ cls := "MatchmakerRules$Parser", name := "items", desc := "()Ljava/util/ArrayList;" } : Jvm.MethodName) ({ cls := "MatchmakerRules$Parser", name := "items", desc := "()Ljava/util/ArrayList;" } : Jvm.MethodName)) ∈ lw_all := lw_g (lw_at lw_m8 138 rfl) rfl
theorem q1915 : (Jvm.Cond.code ({ cls := "MatchmakerRules$Parser", name := "items", desc := "()Ljava/util/ArrayList;" } : Jvm.MethodName) prog_7_method_14_code (4 : Nat) (Option.some (Jvm.ClassFile.FieldType.object "java/util/ArrayList"))) ∈ lw_all := lw_g (lw_at lw_m8 139 rfl) rfl
theorem q1916 : (Jvm.Cond.classLink "MatchmakerRules$Parser" (96 : Nat) "java/util/ArrayList") ∈ lw_all := lw_g (lw_at lw_m8 140 rfl) rfl
theorem q1917 : (Jvm.Cond.methodLink "MatchmakerRules$Parser" (98 : Nat) ({ cls := "java/util/ArrayList", name := "<init>", desc := "()V" } : Jvm.MethodName)) ∈ lw_all := lw_g (lw_at lw_m8 141 rfl) rfl
theorem q1918 : (Jvm.Cond.methodLink "MatchmakerRules$Parser" (99 : Nat) ({ cls := "MatchmakerRules$Parser", name := "item", desc := "()LMatchmakerRules$Change;" } : Jvm.MethodName)) ∈ lw_all := lw_g (lw_at lw_m8 142 rfl) rfl
theorem q1919 : (Jvm.Cond.privateMethod ({ cls := "MatchmakerRules$Parser", name := "item", desc := "()LMatchmakerRules$Change;" } : Jvm.MethodName)) ∈ lw_tbl := lw_at lw_m8 143 rfl
theorem q1920 : (Jvm.Cond.instanceMethod ({ cls := "MatchmakerRules$Parser", name := "item", desc := "()LMatchmakerRules$Change;" } : Jvm.MethodName)) ∈ lw_all := lw_g (lw_at lw_m8 144 rfl) rfl
theorem q1921 : (Jvm.Cond.code ({ cls := "MatchmakerRules$Parser", name := "item", desc := "()LMatchmakerRules$Change;" } : Jvm.MethodName) prog_7_method_13_code (3 : Nat) (Option.some (Jvm.ClassFile.FieldType.object "MatchmakerRules$Change"))) ∈ lw_all := lw_g (lw_at lw_m8 145 rfl) rfl
theorem q1922 : (Jvm.Cond.methodLink "MatchmakerRules$Parser" (89 : Nat) ({ cls := "MatchmakerRules$Parser", name := "fact", desc := "()LMatchmakerRules$Change;" } : Jvm.MethodName)) ∈ lw_all := lw_g (lw_at lw_m8 146 rfl) rfl
theorem q1923 : (Jvm.Cond.privateMethod ({ cls := "MatchmakerRules$Parser", name := "fact", desc := "()LMatchmakerRules$Change;" } : Jvm.MethodName)) ∈ lw_tbl := lw_at lw_m8 147 rfl
theorem q1924 : (Jvm.Cond.instanceMethod ({ cls := "MatchmakerRules$Parser", name := "fact", desc := "()LMatchmakerRules$Change;" } : Jvm.MethodName)) ∈ lw_all := lw_g (lw_at lw_m8 148 rfl) rfl
theorem q1925 : (Jvm.Cond.code ({ cls := "MatchmakerRules$Parser", name := "fact", desc := "()LMatchmakerRules$Change;" } : Jvm.MethodName) prog_7_method_12_code (5 : Nat) (Option.some (Jvm.ClassFile.FieldType.object "MatchmakerRules$Change"))) ∈ lw_all := lw_g (lw_at lw_m8 149 rfl) rfl
theorem q1926 : (Jvm.Cond.classLink "MatchmakerRules$Parser" (83 : Nat) "MatchmakerRules$Change") ∈ lw_all := lw_g (lw_at lw_m8 150 rfl) rfl
theorem q1927 : (Jvm.Cond.methodLink "MatchmakerRules$Parser" (85 : Nat) ({ cls := "MatchmakerRules$Parser", name := "number", desc := "()I" } : Jvm.MethodName)) ∈ lw_all := lw_g (lw_at lw_m8 151 rfl) rfl
theorem q1928 : (Jvm.Cond.privateMethod ({ cls := "MatchmakerRules$Parser", name := "number", desc := "()I" } : Jvm.MethodName)) ∈ lw_tbl := lw_at lw_m8 152 rfl
theorem q1929 : (Jvm.Cond.instanceMethod ({ cls := "MatchmakerRules$Parser", name := "number", desc := "()I" } : Jvm.MethodName)) ∈ lw_all := lw_g (lw_at lw_m8 153 rfl) rfl
theorem q1930 : (Jvm.Cond.code ({ cls := "MatchmakerRules$Parser", name := "number", desc := "()I" } : Jvm.MethodName) prog_7_method_5_code (3 : Nat) (Option.some Jvm.ClassFile.FieldType.int)) ∈ lw_all := lw_g (lw_at lw_m8 154 rfl) rfl
theorem q1931 : (Jvm.Cond.methodLink "MatchmakerRules$Parser" (88 : Nat) ({ cls := "MatchmakerRules$Change", name := "<init>", desc := "(C[I)V" } : Jvm.MethodName)) ∈ lw_all := lw_g (lw_at lw_m8 155 rfl) rfl
theorem q1932 : (Jvm.Cond.methodLink "MatchmakerRules$Parser" (93 : Nat) ({ cls := "MatchmakerRules$Change", name := "<init>", desc := "(LMatchmakerRules$Rule;)V" } : Jvm.MethodName)) ∈ lw_all := lw_g (lw_at lw_m8 156 rfl) rfl
theorem q1933 : (Jvm.Cond.methodLink "MatchmakerRules$Parser" (102 : Nat) ({ cls := "java/util/ArrayList", name := "add", desc := "(Ljava/lang/Object;)Z" } : Jvm.MethodName)) ∈ lw_all := lw_g (lw_at lw_m8 157 rfl) rfl
theorem q2535 : (Jvm.Cond.castable "MatchmakerRules$Parser" "java/lang/Object") ∈ lw_tbl := lw_at lw_m11 39 rfl
theorem in_X6 : ∀ w ∈ wsX60, w ∈ lw_all := lw_in wsX60 [677, 679] (by decide +kernel) (by decide +kernel)
/-! MatchmakerRules$SyntaxException -/
set_option maxRecDepth 100000
def RX7 : String := "MatchmakerRules$SyntaxException"
def TX7 : u_T := fun k => match k with
  | 0 => ("java/lang/Throwable", "cause", "Ljava/lang/Throwable;", false)
  | 1 => ("java/lang/Throwable", "stackTrace", "[Ljava/lang/StackTraceElement;", false)
  | 2 => ("java/lang/Throwable", "suppressedExceptions", "Ljava/util/List;", false)
  | 3 => ("java/lang/Throwable", "detailMessage", "Ljava/lang/String;", false)
  | 4 => ("java/lang/Throwable", "backtrace", "Ljava/lang/Object;", false)
  | 5 => ("java/lang/Throwable", "depth", "I", false)
  | _ => ("MatchmakerRules$SyntaxException", "position", "I", true)
def tyX7 : Nat → FieldType := fun k => match k with
  | 0 => .object "java/lang/Throwable"
  | 1 => .array (.object "java/lang/StackTraceElement")
  | 2 => .object "java/util/List"
  | 3 => .object "java/lang/String"
  | 4 => .object "java/lang/Object"
  | 5 => .int
  | _ => .int
abbrev wsX70 : List Cond := u_ws RX7 TX7 7
theorem nmX7 : ∀ a, a < 7 → ∀ b, b < 7 → a ≠ b → (TX7 a).2.1 ≠ (TX7 b).2.1 := by decide +kernel
theorem tyX7_ok : ∀ k, k < 7 → parseFieldDescriptor (TX7 k).2.2.1 = some (tyX7 k) := by decide +kernel
abbrev cX7_init : ByteArray := prog_11_method_1_code
def yX7_init : MethodName := ⟨RX7, "<init>", "(I)V"⟩
def dkwX7_init_0 : List UInt8 := [42, 1, 1, 3, 3, 183, 0, 1, 42, 27, 181, 0, 7, 177]
abbrev dktX7_init_0 : List UInt8 := dkwX7_init_0 ++ []
theorem dksX7_init_0 : cX7_init.data.toList.drop 0 = dktX7_init_0 := by decide +kernel
theorem dX7_init_0 : decode cX7_init 0 = .ok (.aload_n 0, 1) := dk_42 (dk_at dksX7_init_0 0 rfl rfl)
theorem dX7_init_1 : decode cX7_init 1 = .ok (.aconst_null, 1) := dk_1 (dk_at dksX7_init_0 1 rfl rfl)
theorem dX7_init_2 : decode cX7_init 2 = .ok (.aconst_null, 1) := dk_1 (dk_at dksX7_init_0 2 rfl rfl)
theorem dX7_init_3 : decode cX7_init 3 = .ok (.iconst 0, 1) := dk_3 (dk_at dksX7_init_0 3 rfl rfl)
theorem dX7_init_4 : decode cX7_init 4 = .ok (.iconst 0, 1) := dk_3 (dk_at dksX7_init_0 4 rfl rfl)
theorem dX7_init_5 : decode cX7_init 5 = .ok (.invokespecial 1, 3) := dk_183 0 1 (dk_at dksX7_init_0 5 rfl rfl)
theorem dX7_init_8 : decode cX7_init 8 = .ok (.aload_n 0, 1) := dk_42 (dk_at dksX7_init_0 8 rfl rfl)
theorem dX7_init_9 : decode cX7_init 9 = .ok (.iload_n 1, 1) := dk_27 (dk_at dksX7_init_0 9 rfl rfl)
theorem dX7_init_10 : decode cX7_init 10 = .ok (.putfield 7, 3) := dk_181 0 7 (dk_at dksX7_init_0 10 rfl rfl)
theorem dX7_init_13 : decode cX7_init 13 = .ok (.return_, 1) := dk_177 (dk_at dksX7_init_0 13 rfl rfl)
theorem q116 : (Jvm.Cond.initialized "MatchmakerRules$SyntaxException") ∈ lw_all := lw_g (lw_at lw_m1 20 rfl) rfl
theorem q431 : (Jvm.Cond.selects "MatchmakerRules$SyntaxException" ({ cls := "java/lang/Throwable", name := "fillInStackTrace", desc := "()Ljava/lang/Throwable;" } : Jvm.MethodName) ({ cls := "java/lang/Throwable", name := "fillInStackTrace", desc := "()Ljava/lang/Throwable;" } : Jvm.MethodName)) ∈ lw_all := lw_g (lw_at lw_m2 95 rfl) rfl
theorem q591 : (Jvm.Cond.selects "MatchmakerRules$SyntaxException" ({ cls := "java/lang/Object", name := "equals", desc := "(Ljava/lang/Object;)Z" } : Jvm.MethodName) ({ cls := "java/lang/Object", name := "equals", desc := "(Ljava/lang/Object;)Z" } : Jvm.MethodName)) ∈ lw_all := lw_g (lw_at lw_m3 15 rfl) rfl
theorem q785 : (Jvm.Cond.instantiable "MatchmakerRules$SyntaxException" (7 : Nat)) ∈ lw_all := lw_g (lw_at lw_m3 209 rfl) rfl
theorem q786 : (Jvm.Cond.castable "MatchmakerRules$SyntaxException" "MatchmakerRules$SyntaxException") ∈ lw_tbl := lw_at lw_m3 210 rfl
theorem q787 : (Jvm.Cond.selects "MatchmakerRules$SyntaxException" ({ cls := "java/lang/Throwable", name := "fillInStackTrace", desc := "(I)Ljava/lang/Throwable;" } : Jvm.MethodName) ({ cls := "java/lang/Throwable", name := "fillInStackTrace", desc := "(I)Ljava/lang/Throwable;" } : Jvm.MethodName)) ∈ lw_all := lw_g (lw_at lw_m3 211 rfl) rfl
theorem q788 : (Jvm.Cond.lays "MatchmakerRules$SyntaxException" "java/lang/Throwable" "cause" "Ljava/lang/Throwable;") ∈ lw_all := lw_g (lw_at lw_m3 212 rfl) rfl
theorem q789 : (Jvm.Cond.lays "MatchmakerRules$SyntaxException" "java/lang/Throwable" "stackTrace" "[Ljava/lang/StackTraceElement;") ∈ lw_all := lw_g (lw_at lw_m3 213 rfl) rfl
theorem q790 : (Jvm.Cond.lays "MatchmakerRules$SyntaxException" "java/lang/Throwable" "suppressedExceptions" "Ljava/util/List;") ∈ lw_all := lw_g (lw_at lw_m3 214 rfl) rfl
theorem q791 : (Jvm.Cond.lays "MatchmakerRules$SyntaxException" "java/lang/Throwable" "detailMessage" "Ljava/lang/String;") ∈ lw_all := lw_g (lw_at lw_m3 215 rfl) rfl
theorem q792 : (Jvm.Cond.lays "MatchmakerRules$SyntaxException" "java/lang/Throwable" "backtrace" "Ljava/lang/Object;") ∈ lw_all := lw_g (lw_at lw_m3 216 rfl) rfl
theorem q794 : (Jvm.Cond.instanceMethod ({ cls := "MatchmakerRules$SyntaxException", name := "<init>", desc := "(I)V" } : Jvm.MethodName)) ∈ lw_all := lw_g (lw_at lw_m3 218 rfl) rfl
theorem q795 : (Jvm.Cond.code ({ cls := "MatchmakerRules$SyntaxException", name := "<init>", desc := "(I)V" } : Jvm.MethodName) prog_11_method_1_code (2 : Nat) (Option.none : Option Jvm.ClassFile.FieldType)) ∈ lw_all := lw_g (lw_at lw_m3 219 rfl) rfl
theorem q796 : (Jvm.Cond.methodLink "MatchmakerRules$SyntaxException" (1 : Nat) ({ cls := "java/lang/Exception", name := "<init>", desc := "(Ljava/lang/String;Ljava/lang/Throwable;ZZ)V" } : Jvm.MethodName)) ∈ lw_all := lw_g (lw_at lw_m3 220 rfl) rfl
theorem q802 : (Jvm.Cond.fieldLink "MatchmakerRules$SyntaxException" (7 : Nat) "MatchmakerRules$SyntaxException" "position" "I") ∈ lw_all := lw_g (lw_at lw_m3 226 rfl) rfl
theorem q804 : (Jvm.Cond.laysFinal "MatchmakerRules$SyntaxException" "MatchmakerRules$SyntaxException" "position" "I") ∈ lw_all := lw_g (lw_at lw_m3 228 rfl) rfl
theorem q805 : (Jvm.Cond.soleField "MatchmakerRules$SyntaxException" "position") ∈ lw_all := lw_g (lw_at lw_m3 229 rfl) rfl
theorem q806 : (Jvm.Cond.lays "MatchmakerRules$SyntaxException" "java/lang/Throwable" "depth" "I") ∈ lw_all := lw_g (lw_at lw_m3 230 rfl) rfl
theorem q807 : (Jvm.Cond.superclass "MatchmakerRules$SyntaxException" "java/lang/Exception") ∈ lw_all := lw_g (lw_at lw_m3 231 rfl) rfl
theorem q949 : (Jvm.Cond.selects "MatchmakerRules$SyntaxException" ({ cls := "java/lang/Object", name := "getClass", desc := "()Ljava/lang/Class;" } : Jvm.MethodName) ({ cls := "java/lang/Object", name := "getClass", desc := "()Ljava/lang/Class;" } : Jvm.MethodName)) ∈ lw_all := lw_g (lw_at lw_m4 133 rfl) rfl
theorem q2536 : (Jvm.Cond.castable "MatchmakerRules$SyntaxException" "java/lang/Object") ∈ lw_tbl := lw_at lw_m11 40 rfl
theorem in_X7 : ∀ w ∈ wsX70, w ∈ lw_all := lw_in wsX70 [788, 789, 790, 791, 792, 806, 804] (by decide +kernel) (by decide +kernel)
/-! MatchmakerRules$Pattern -/
set_option maxRecDepth 100000
def RX8 : String := "MatchmakerRules$Pattern"
def TX8 : u_T := fun k => match k with
  | 0 => ("MatchmakerRules$Pattern", "kind", "C", true)
  | _ => ("MatchmakerRules$Pattern", "terms", "[I", true)
def tyX8 : Nat → FieldType := fun k => match k with
  | 0 => .char
  | _ => .array .int
abbrev wsX80 : List Cond := u_ws RX8 TX8 2
theorem nmX8 : ∀ a, a < 2 → ∀ b, b < 2 → a ≠ b → (TX8 a).2.1 ≠ (TX8 b).2.1 := by decide +kernel
theorem tyX8_ok : ∀ k, k < 2 → parseFieldDescriptor (TX8 k).2.2.1 = some (tyX8 k) := by decide +kernel
abbrev cX8_fits : ByteArray := prog_8_method_2_code
def yX8_fits : MethodName := ⟨RX8, "fits", "(LMatchmakerRules$Fact;[I)Z"⟩
def dkwX8_fits_1 : List UInt8 := [42, 4, 43, 180, 0, 35, 44, 182, 0, 31, 153, 0, 7, 4, 167, 0, 4, 3, 172]
abbrev dktX8_fits_1 : List UInt8 := dkwX8_fits_1 ++ []
def dkwX8_fits_0 : List UInt8 := [43, 180, 0, 24, 42, 180, 0, 9, 160, 0, 33, 42, 3, 43, 180, 0, 27, 44, 182, 0, 31, 153, 0, 20]
abbrev dktX8_fits_0 : List UInt8 := dkwX8_fits_0 ++ dktX8_fits_1
theorem dksX8_fits_0 : cX8_fits.data.toList.drop 0 = dktX8_fits_0 := by decide +kernel
theorem dksX8_fits_1 : cX8_fits.data.toList.drop 24 = dktX8_fits_1 := dk_seg dksX8_fits_0 24 rfl rfl
theorem dX8_fits_0 : decode cX8_fits 0 = .ok (.aload_n 1, 1) := dk_43 (dk_at dksX8_fits_0 0 rfl rfl)
theorem dX8_fits_1 : decode cX8_fits 1 = .ok (.getfield 24, 3) := dk_180 0 24 (dk_at dksX8_fits_0 1 rfl rfl)
theorem dX8_fits_4 : decode cX8_fits 4 = .ok (.aload_n 0, 1) := dk_42 (dk_at dksX8_fits_0 4 rfl rfl)
theorem dX8_fits_5 : decode cX8_fits 5 = .ok (.getfield 9, 3) := dk_180 0 9 (dk_at dksX8_fits_0 5 rfl rfl)
theorem dX8_fits_8 : decode cX8_fits 8 = .ok (.if_icmp .ne 33, 3) := dk_160 0 33 (dk_at dksX8_fits_0 8 rfl rfl)
theorem dX8_fits_11 : decode cX8_fits 11 = .ok (.aload_n 0, 1) := dk_42 (dk_at dksX8_fits_0 11 rfl rfl)
theorem dX8_fits_12 : decode cX8_fits 12 = .ok (.iconst 0, 1) := dk_3 (dk_at dksX8_fits_0 12 rfl rfl)
theorem dX8_fits_13 : decode cX8_fits 13 = .ok (.aload_n 1, 1) := dk_43 (dk_at dksX8_fits_0 13 rfl rfl)
theorem dX8_fits_14 : decode cX8_fits 14 = .ok (.getfield 27, 3) := dk_180 0 27 (dk_at dksX8_fits_0 14 rfl rfl)
theorem dX8_fits_17 : decode cX8_fits 17 = .ok (.aload_n 2, 1) := dk_44 (dk_at dksX8_fits_0 17 rfl rfl)
theorem dX8_fits_18 : decode cX8_fits 18 = .ok (.invokevirtual 31, 3) := dk_182 0 31 (dk_at dksX8_fits_0 18 rfl rfl)
theorem dX8_fits_21 : decode cX8_fits 21 = .ok (.ifCond .eq 20, 3) := dk_153 0 20 (dk_at dksX8_fits_0 21 rfl rfl)
theorem dX8_fits_24 : decode cX8_fits 24 = .ok (.aload_n 0, 1) := dk_42 (dk_at dksX8_fits_1 0 rfl rfl)
theorem dX8_fits_25 : decode cX8_fits 25 = .ok (.iconst 1, 1) := dk_4 (dk_at dksX8_fits_1 1 rfl rfl)
theorem dX8_fits_26 : decode cX8_fits 26 = .ok (.aload_n 1, 1) := dk_43 (dk_at dksX8_fits_1 2 rfl rfl)
theorem dX8_fits_27 : decode cX8_fits 27 = .ok (.getfield 35, 3) := dk_180 0 35 (dk_at dksX8_fits_1 3 rfl rfl)
theorem dX8_fits_30 : decode cX8_fits 30 = .ok (.aload_n 2, 1) := dk_44 (dk_at dksX8_fits_1 6 rfl rfl)
theorem dX8_fits_31 : decode cX8_fits 31 = .ok (.invokevirtual 31, 3) := dk_182 0 31 (dk_at dksX8_fits_1 7 rfl rfl)
theorem dX8_fits_34 : decode cX8_fits 34 = .ok (.ifCond .eq 7, 3) := dk_153 0 7 (dk_at dksX8_fits_1 10 rfl rfl)
theorem dX8_fits_37 : decode cX8_fits 37 = .ok (.iconst 1, 1) := dk_4 (dk_at dksX8_fits_1 13 rfl rfl)
theorem dX8_fits_38 : decode cX8_fits 38 = .ok (.goto 4, 3) := dk_167 0 4 (dk_at dksX8_fits_1 14 rfl rfl)
theorem dX8_fits_41 : decode cX8_fits 41 = .ok (.iconst 0, 1) := dk_3 (dk_at dksX8_fits_1 17 rfl rfl)
theorem dX8_fits_42 : decode cX8_fits 42 = .ok (.ireturn, 1) := dk_172 (dk_at dksX8_fits_1 18 rfl rfl)
abbrev cX8_fits_2 : ByteArray := prog_8_method_3_code
def yX8_fits_2 : MethodName := ⟨RX8, "fits", "(II[I)Z"⟩
def dkwX8_fits_2_3 : List UInt8 := [21, 5, 46, 28, 160, 0, 7, 4, 167, 0, 4, 3, 172]
abbrev dktX8_fits_2_3 : List UInt8 := dkwX8_fits_2_3 ++ []
def dkwX8_fits_2_2 : List UInt8 := [167, 0, 4, 3, 54, 6, 45, 21, 5, 21, 6, 153, 0, 7, 28, 167, 0, 7, 45, 21, 5, 46, 79, 45]
abbrev dktX8_fits_2_2 : List UInt8 := dkwX8_fits_2_2 ++ dktX8_fits_2_3
def dkwX8_fits_2_1 : List UInt8 := [167, 0, 4, 3, 172, 21, 4, 16, 9, 100, 4, 100, 54, 5, 45, 21, 5, 46, 2, 160, 0, 7, 4]
abbrev dktX8_fits_2_1 : List UInt8 := dkwX8_fits_2_1 ++ dktX8_fits_2_2
def dkwX8_fits_2_0 : List UInt8 := [42, 180, 0, 21, 27, 46, 54, 4, 21, 4, 16, 9, 163, 0, 15, 21, 4, 28, 160, 0, 7, 4]
abbrev dktX8_fits_2_0 : List UInt8 := dkwX8_fits_2_0 ++ dktX8_fits_2_1
theorem dksX8_fits_2_0 : cX8_fits_2.data.toList.drop 0 = dktX8_fits_2_0 := by decide +kernel
theorem dksX8_fits_2_1 : cX8_fits_2.data.toList.drop 22 = dktX8_fits_2_1 := dk_seg dksX8_fits_2_0 22 rfl rfl
theorem dksX8_fits_2_2 : cX8_fits_2.data.toList.drop 45 = dktX8_fits_2_2 := dk_seg dksX8_fits_2_1 23 rfl rfl
theorem dksX8_fits_2_3 : cX8_fits_2.data.toList.drop 69 = dktX8_fits_2_3 := dk_seg dksX8_fits_2_2 24 rfl rfl
theorem dX8_fits_2_0 : decode cX8_fits_2 0 = .ok (.aload_n 0, 1) := dk_42 (dk_at dksX8_fits_2_0 0 rfl rfl)
theorem dX8_fits_2_1 : decode cX8_fits_2 1 = .ok (.getfield 21, 3) := dk_180 0 21 (dk_at dksX8_fits_2_0 1 rfl rfl)
theorem dX8_fits_2_4 : decode cX8_fits_2 4 = .ok (.iload_n 1, 1) := dk_27 (dk_at dksX8_fits_2_0 4 rfl rfl)
theorem dX8_fits_2_5 : decode cX8_fits_2 5 = .ok (.iaload, 1) := dk_46 (dk_at dksX8_fits_2_0 5 rfl rfl)
theorem dX8_fits_2_6 : decode cX8_fits_2 6 = .ok (.istore 4, 2) := dk_54 4 (dk_at dksX8_fits_2_0 6 rfl rfl)
theorem dX8_fits_2_8 : decode cX8_fits_2 8 = .ok (.iload 4, 2) := dk_21 4 (dk_at dksX8_fits_2_0 8 rfl rfl)
theorem dX8_fits_2_10 : decode cX8_fits_2 10 = .ok (.bipush 9, 2) := dk_16 9 (dk_at dksX8_fits_2_0 10 rfl rfl)
theorem dX8_fits_2_12 : decode cX8_fits_2 12 = .ok (.if_icmp .gt 15, 3) := dk_163 0 15 (dk_at dksX8_fits_2_0 12 rfl rfl)
theorem dX8_fits_2_15 : decode cX8_fits_2 15 = .ok (.iload 4, 2) := dk_21 4 (dk_at dksX8_fits_2_0 15 rfl rfl)
theorem dX8_fits_2_17 : decode cX8_fits_2 17 = .ok (.iload_n 2, 1) := dk_28 (dk_at dksX8_fits_2_0 17 rfl rfl)
theorem dX8_fits_2_18 : decode cX8_fits_2 18 = .ok (.if_icmp .ne 7, 3) := dk_160 0 7 (dk_at dksX8_fits_2_0 18 rfl rfl)
theorem dX8_fits_2_21 : decode cX8_fits_2 21 = .ok (.iconst 1, 1) := dk_4 (dk_at dksX8_fits_2_0 21 rfl rfl)
theorem dX8_fits_2_22 : decode cX8_fits_2 22 = .ok (.goto 4, 3) := dk_167 0 4 (dk_at dksX8_fits_2_1 0 rfl rfl)
theorem dX8_fits_2_25 : decode cX8_fits_2 25 = .ok (.iconst 0, 1) := dk_3 (dk_at dksX8_fits_2_1 3 rfl rfl)
theorem dX8_fits_2_26 : decode cX8_fits_2 26 = .ok (.ireturn, 1) := dk_172 (dk_at dksX8_fits_2_1 4 rfl rfl)
theorem dX8_fits_2_27 : decode cX8_fits_2 27 = .ok (.iload 4, 2) := dk_21 4 (dk_at dksX8_fits_2_1 5 rfl rfl)
theorem dX8_fits_2_29 : decode cX8_fits_2 29 = .ok (.bipush 9, 2) := dk_16 9 (dk_at dksX8_fits_2_1 7 rfl rfl)
theorem dX8_fits_2_31 : decode cX8_fits_2 31 = .ok (.isub, 1) := dk_100 (dk_at dksX8_fits_2_1 9 rfl rfl)
theorem dX8_fits_2_32 : decode cX8_fits_2 32 = .ok (.iconst 1, 1) := dk_4 (dk_at dksX8_fits_2_1 10 rfl rfl)
theorem dX8_fits_2_33 : decode cX8_fits_2 33 = .ok (.isub, 1) := dk_100 (dk_at dksX8_fits_2_1 11 rfl rfl)
theorem dX8_fits_2_34 : decode cX8_fits_2 34 = .ok (.istore 5, 2) := dk_54 5 (dk_at dksX8_fits_2_1 12 rfl rfl)
theorem dX8_fits_2_36 : decode cX8_fits_2 36 = .ok (.aload_n 3, 1) := dk_45 (dk_at dksX8_fits_2_1 14 rfl rfl)
theorem dX8_fits_2_37 : decode cX8_fits_2 37 = .ok (.iload 5, 2) := dk_21 5 (dk_at dksX8_fits_2_1 15 rfl rfl)
theorem dX8_fits_2_39 : decode cX8_fits_2 39 = .ok (.iaload, 1) := dk_46 (dk_at dksX8_fits_2_1 17 rfl rfl)
theorem dX8_fits_2_40 : decode cX8_fits_2 40 = .ok (.iconst (-1), 1) := dk_2 (dk_at dksX8_fits_2_1 18 rfl rfl)
theorem dX8_fits_2_41 : decode cX8_fits_2 41 = .ok (.if_icmp .ne 7, 3) := dk_160 0 7 (dk_at dksX8_fits_2_1 19 rfl rfl)
theorem dX8_fits_2_44 : decode cX8_fits_2 44 = .ok (.iconst 1, 1) := dk_4 (dk_at dksX8_fits_2_1 22 rfl rfl)
theorem dX8_fits_2_45 : decode cX8_fits_2 45 = .ok (.goto 4, 3) := dk_167 0 4 (dk_at dksX8_fits_2_2 0 rfl rfl)
theorem dX8_fits_2_48 : decode cX8_fits_2 48 = .ok (.iconst 0, 1) := dk_3 (dk_at dksX8_fits_2_2 3 rfl rfl)
theorem dX8_fits_2_49 : decode cX8_fits_2 49 = .ok (.istore 6, 2) := dk_54 6 (dk_at dksX8_fits_2_2 4 rfl rfl)
theorem dX8_fits_2_51 : decode cX8_fits_2 51 = .ok (.aload_n 3, 1) := dk_45 (dk_at dksX8_fits_2_2 6 rfl rfl)
theorem dX8_fits_2_52 : decode cX8_fits_2 52 = .ok (.iload 5, 2) := dk_21 5 (dk_at dksX8_fits_2_2 7 rfl rfl)
theorem dX8_fits_2_54 : decode cX8_fits_2 54 = .ok (.iload 6, 2) := dk_21 6 (dk_at dksX8_fits_2_2 9 rfl rfl)
theorem dX8_fits_2_56 : decode cX8_fits_2 56 = .ok (.ifCond .eq 7, 3) := dk_153 0 7 (dk_at dksX8_fits_2_2 11 rfl rfl)
theorem dX8_fits_2_59 : decode cX8_fits_2 59 = .ok (.iload_n 2, 1) := dk_28 (dk_at dksX8_fits_2_2 14 rfl rfl)
theorem dX8_fits_2_60 : decode cX8_fits_2 60 = .ok (.goto 7, 3) := dk_167 0 7 (dk_at dksX8_fits_2_2 15 rfl rfl)
theorem dX8_fits_2_63 : decode cX8_fits_2 63 = .ok (.aload_n 3, 1) := dk_45 (dk_at dksX8_fits_2_2 18 rfl rfl)
theorem dX8_fits_2_64 : decode cX8_fits_2 64 = .ok (.iload 5, 2) := dk_21 5 (dk_at dksX8_fits_2_2 19 rfl rfl)
theorem dX8_fits_2_66 : decode cX8_fits_2 66 = .ok (.iaload, 1) := dk_46 (dk_at dksX8_fits_2_2 21 rfl rfl)
theorem dX8_fits_2_67 : decode cX8_fits_2 67 = .ok (.iastore, 1) := dk_79 (dk_at dksX8_fits_2_2 22 rfl rfl)
theorem dX8_fits_2_68 : decode cX8_fits_2 68 = .ok (.aload_n 3, 1) := dk_45 (dk_at dksX8_fits_2_2 23 rfl rfl)
theorem dX8_fits_2_69 : decode cX8_fits_2 69 = .ok (.iload 5, 2) := dk_21 5 (dk_at dksX8_fits_2_3 0 rfl rfl)
theorem dX8_fits_2_71 : decode cX8_fits_2 71 = .ok (.iaload, 1) := dk_46 (dk_at dksX8_fits_2_3 2 rfl rfl)
theorem dX8_fits_2_72 : decode cX8_fits_2 72 = .ok (.iload_n 2, 1) := dk_28 (dk_at dksX8_fits_2_3 3 rfl rfl)
theorem dX8_fits_2_73 : decode cX8_fits_2 73 = .ok (.if_icmp .ne 7, 3) := dk_160 0 7 (dk_at dksX8_fits_2_3 4 rfl rfl)
theorem dX8_fits_2_76 : decode cX8_fits_2 76 = .ok (.iconst 1, 1) := dk_4 (dk_at dksX8_fits_2_3 7 rfl rfl)
theorem dX8_fits_2_77 : decode cX8_fits_2 77 = .ok (.goto 4, 3) := dk_167 0 4 (dk_at dksX8_fits_2_3 8 rfl rfl)
theorem dX8_fits_2_80 : decode cX8_fits_2 80 = .ok (.iconst 0, 1) := dk_3 (dk_at dksX8_fits_2_3 11 rfl rfl)
theorem dX8_fits_2_81 : decode cX8_fits_2 81 = .ok (.ireturn, 1) := dk_172 (dk_at dksX8_fits_2_3 12 rfl rfl)
abbrev cX8_init : ByteArray := prog_8_method_1_code
def yX8_init : MethodName := ⟨RX8, "<init>", "(C[I)V"⟩
def dkwX8_init_0 : List UInt8 := [42, 183, 0, 3, 42, 27, 181, 0, 9, 42, 44, 182, 0, 15, 192, 0, 16, 181, 0, 21, 177]
abbrev dktX8_init_0 : List UInt8 := dkwX8_init_0 ++ []
theorem dksX8_init_0 : cX8_init.data.toList.drop 0 = dktX8_init_0 := by decide +kernel
theorem dX8_init_0 : decode cX8_init 0 = .ok (.aload_n 0, 1) := dk_42 (dk_at dksX8_init_0 0 rfl rfl)
theorem dX8_init_1 : decode cX8_init 1 = .ok (.invokespecial 3, 3) := dk_183 0 3 (dk_at dksX8_init_0 1 rfl rfl)
theorem dX8_init_4 : decode cX8_init 4 = .ok (.aload_n 0, 1) := dk_42 (dk_at dksX8_init_0 4 rfl rfl)
theorem dX8_init_5 : decode cX8_init 5 = .ok (.iload_n 1, 1) := dk_27 (dk_at dksX8_init_0 5 rfl rfl)
theorem dX8_init_6 : decode cX8_init 6 = .ok (.putfield 9, 3) := dk_181 0 9 (dk_at dksX8_init_0 6 rfl rfl)
theorem dX8_init_9 : decode cX8_init 9 = .ok (.aload_n 0, 1) := dk_42 (dk_at dksX8_init_0 9 rfl rfl)
theorem dX8_init_10 : decode cX8_init 10 = .ok (.aload_n 2, 1) := dk_44 (dk_at dksX8_init_0 10 rfl rfl)
theorem dX8_init_11 : decode cX8_init 11 = .ok (.invokevirtual 15, 3) := dk_182 0 15 (dk_at dksX8_init_0 11 rfl rfl)
theorem dX8_init_14 : decode cX8_init 14 = .ok (.checkcast 16, 3) := dk_192 0 16 (dk_at dksX8_init_0 14 rfl rfl)
theorem dX8_init_17 : decode cX8_init 17 = .ok (.putfield 21, 3) := dk_181 0 21 (dk_at dksX8_init_0 17 rfl rfl)
theorem dX8_init_20 : decode cX8_init 20 = .ok (.return_, 1) := dk_177 (dk_at dksX8_init_0 20 rfl rfl)
abbrev cX8_person : ByteArray := prog_8_method_4_code
def yX8_person : MethodName := ⟨RX8, "person", "(I[I)I"⟩
def dkwX8_person_1 : List UInt8 := [180, 0, 21, 27, 46, 16, 9, 100, 4, 100, 46, 172]
abbrev dktX8_person_1 : List UInt8 := dkwX8_person_1 ++ []
def dkwX8_person_0 : List UInt8 := [42, 180, 0, 21, 27, 46, 16, 9, 163, 0, 12, 42, 180, 0, 21, 27, 46, 167, 0, 16, 44, 42]
abbrev dktX8_person_0 : List UInt8 := dkwX8_person_0 ++ dktX8_person_1
theorem dksX8_person_0 : cX8_person.data.toList.drop 0 = dktX8_person_0 := by decide +kernel
theorem dksX8_person_1 : cX8_person.data.toList.drop 22 = dktX8_person_1 := dk_seg dksX8_person_0 22 rfl rfl
theorem dX8_person_0 : decode cX8_person 0 = .ok (.aload_n 0, 1) := dk_42 (dk_at dksX8_person_0 0 rfl rfl)
theorem dX8_person_1 : decode cX8_person 1 = .ok (.getfield 21, 3) := dk_180 0 21 (dk_at dksX8_person_0 1 rfl rfl)
theorem dX8_person_4 : decode cX8_person 4 = .ok (.iload_n 1, 1) := dk_27 (dk_at dksX8_person_0 4 rfl rfl)
theorem dX8_person_5 : decode cX8_person 5 = .ok (.iaload, 1) := dk_46 (dk_at dksX8_person_0 5 rfl rfl)
theorem dX8_person_6 : decode cX8_person 6 = .ok (.bipush 9, 2) := dk_16 9 (dk_at dksX8_person_0 6 rfl rfl)
theorem dX8_person_8 : decode cX8_person 8 = .ok (.if_icmp .gt 12, 3) := dk_163 0 12 (dk_at dksX8_person_0 8 rfl rfl)
theorem dX8_person_11 : decode cX8_person 11 = .ok (.aload_n 0, 1) := dk_42 (dk_at dksX8_person_0 11 rfl rfl)
theorem dX8_person_12 : decode cX8_person 12 = .ok (.getfield 21, 3) := dk_180 0 21 (dk_at dksX8_person_0 12 rfl rfl)
theorem dX8_person_15 : decode cX8_person 15 = .ok (.iload_n 1, 1) := dk_27 (dk_at dksX8_person_0 15 rfl rfl)
theorem dX8_person_16 : decode cX8_person 16 = .ok (.iaload, 1) := dk_46 (dk_at dksX8_person_0 16 rfl rfl)
theorem dX8_person_17 : decode cX8_person 17 = .ok (.goto 16, 3) := dk_167 0 16 (dk_at dksX8_person_0 17 rfl rfl)
theorem dX8_person_20 : decode cX8_person 20 = .ok (.aload_n 2, 1) := dk_44 (dk_at dksX8_person_0 20 rfl rfl)
theorem dX8_person_21 : decode cX8_person 21 = .ok (.aload_n 0, 1) := dk_42 (dk_at dksX8_person_0 21 rfl rfl)
theorem dX8_person_22 : decode cX8_person 22 = .ok (.getfield 21, 3) := dk_180 0 21 (dk_at dksX8_person_1 0 rfl rfl)
theorem dX8_person_25 : decode cX8_person 25 = .ok (.iload_n 1, 1) := dk_27 (dk_at dksX8_person_1 3 rfl rfl)
theorem dX8_person_26 : decode cX8_person 26 = .ok (.iaload, 1) := dk_46 (dk_at dksX8_person_1 4 rfl rfl)
theorem dX8_person_27 : decode cX8_person 27 = .ok (.bipush 9, 2) := dk_16 9 (dk_at dksX8_person_1 5 rfl rfl)
theorem dX8_person_29 : decode cX8_person 29 = .ok (.isub, 1) := dk_100 (dk_at dksX8_person_1 7 rfl rfl)
theorem dX8_person_30 : decode cX8_person 30 = .ok (.iconst 1, 1) := dk_4 (dk_at dksX8_person_1 8 rfl rfl)
theorem dX8_person_31 : decode cX8_person 31 = .ok (.isub, 1) := dk_100 (dk_at dksX8_person_1 9 rfl rfl)
theorem dX8_person_32 : decode cX8_person 32 = .ok (.iaload, 1) := dk_46 (dk_at dksX8_person_1 10 rfl rfl)
theorem dX8_person_33 : decode cX8_person 33 = .ok (.ireturn, 1) := dk_172 (dk_at dksX8_person_1 11 rfl rfl)
abbrev cX8_tell : ByteArray := prog_8_method_6_code
def yX8_tell : MethodName := ⟨RX8, "tell", "(Ljava/lang/StringBuilder;)V"⟩
def dkwX8_tell_1 : List UInt8 := [4, 46, 184, 0, 44, 182, 0, 38, 77, 177]
abbrev dktX8_tell_1 : List UInt8 := dkwX8_tell_1 ++ []
def dkwX8_tell_0 : List UInt8 := [43, 42, 180, 0, 9, 182, 0, 38, 42, 180, 0, 21, 3, 46, 184, 0, 44, 182, 0, 38, 42, 180, 0, 21]
abbrev dktX8_tell_0 : List UInt8 := dkwX8_tell_0 ++ dktX8_tell_1
theorem dksX8_tell_0 : cX8_tell.data.toList.drop 0 = dktX8_tell_0 := by decide +kernel
theorem dksX8_tell_1 : cX8_tell.data.toList.drop 24 = dktX8_tell_1 := dk_seg dksX8_tell_0 24 rfl rfl
theorem dX8_tell_0 : decode cX8_tell 0 = .ok (.aload_n 1, 1) := dk_43 (dk_at dksX8_tell_0 0 rfl rfl)
theorem dX8_tell_1 : decode cX8_tell 1 = .ok (.aload_n 0, 1) := dk_42 (dk_at dksX8_tell_0 1 rfl rfl)
theorem dX8_tell_2 : decode cX8_tell 2 = .ok (.getfield 9, 3) := dk_180 0 9 (dk_at dksX8_tell_0 2 rfl rfl)
theorem dX8_tell_5 : decode cX8_tell 5 = .ok (.invokevirtual 38, 3) := dk_182 0 38 (dk_at dksX8_tell_0 5 rfl rfl)
theorem dX8_tell_8 : decode cX8_tell 8 = .ok (.aload_n 0, 1) := dk_42 (dk_at dksX8_tell_0 8 rfl rfl)
theorem dX8_tell_9 : decode cX8_tell 9 = .ok (.getfield 21, 3) := dk_180 0 21 (dk_at dksX8_tell_0 9 rfl rfl)
theorem dX8_tell_12 : decode cX8_tell 12 = .ok (.iconst 0, 1) := dk_3 (dk_at dksX8_tell_0 12 rfl rfl)
theorem dX8_tell_13 : decode cX8_tell 13 = .ok (.iaload, 1) := dk_46 (dk_at dksX8_tell_0 13 rfl rfl)
theorem dX8_tell_14 : decode cX8_tell 14 = .ok (.invokestatic 44, 3) := dk_184 0 44 (dk_at dksX8_tell_0 14 rfl rfl)
theorem dX8_tell_17 : decode cX8_tell 17 = .ok (.invokevirtual 38, 3) := dk_182 0 38 (dk_at dksX8_tell_0 17 rfl rfl)
theorem dX8_tell_20 : decode cX8_tell 20 = .ok (.aload_n 0, 1) := dk_42 (dk_at dksX8_tell_0 20 rfl rfl)
theorem dX8_tell_21 : decode cX8_tell 21 = .ok (.getfield 21, 3) := dk_180 0 21 (dk_at dksX8_tell_0 21 rfl rfl)
theorem dX8_tell_24 : decode cX8_tell 24 = .ok (.iconst 1, 1) := dk_4 (dk_at dksX8_tell_1 0 rfl rfl)
theorem dX8_tell_25 : decode cX8_tell 25 = .ok (.iaload, 1) := dk_46 (dk_at dksX8_tell_1 1 rfl rfl)
theorem dX8_tell_26 : decode cX8_tell 26 = .ok (.invokestatic 44, 3) := dk_184 0 44 (dk_at dksX8_tell_1 2 rfl rfl)
theorem dX8_tell_29 : decode cX8_tell 29 = .ok (.invokevirtual 38, 3) := dk_182 0 38 (dk_at dksX8_tell_1 5 rfl rfl)
theorem dX8_tell_32 : decode cX8_tell 32 = .ok (.astore_n 2, 1) := dk_77 (dk_at dksX8_tell_1 8 rfl rfl)
theorem dX8_tell_33 : decode cX8_tell 33 = .ok (.return_, 1) := dk_177 (dk_at dksX8_tell_1 9 rfl rfl)
abbrev cX8_sign : ByteArray := prog_8_method_5_code
def yX8_sign : MethodName := ⟨RX8, "sign", "(I)C"⟩
def dkwX8_sign_0 : List UInt8 := [26, 16, 9, 163, 0, 10, 16, 48, 26, 96, 167, 0, 12, 16, 88, 26, 96, 16, 9, 100, 4, 100, 146, 172]
abbrev dktX8_sign_0 : List UInt8 := dkwX8_sign_0 ++ []
theorem dksX8_sign_0 : cX8_sign.data.toList.drop 0 = dktX8_sign_0 := by decide +kernel
theorem dX8_sign_0 : decode cX8_sign 0 = .ok (.iload_n 0, 1) := dk_26 (dk_at dksX8_sign_0 0 rfl rfl)
theorem dX8_sign_1 : decode cX8_sign 1 = .ok (.bipush 9, 2) := dk_16 9 (dk_at dksX8_sign_0 1 rfl rfl)
theorem dX8_sign_3 : decode cX8_sign 3 = .ok (.if_icmp .gt 10, 3) := dk_163 0 10 (dk_at dksX8_sign_0 3 rfl rfl)
theorem dX8_sign_6 : decode cX8_sign 6 = .ok (.bipush 48, 2) := dk_16 48 (dk_at dksX8_sign_0 6 rfl rfl)
theorem dX8_sign_8 : decode cX8_sign 8 = .ok (.iload_n 0, 1) := dk_26 (dk_at dksX8_sign_0 8 rfl rfl)
theorem dX8_sign_9 : decode cX8_sign 9 = .ok (.iadd, 1) := dk_96 (dk_at dksX8_sign_0 9 rfl rfl)
theorem dX8_sign_10 : decode cX8_sign 10 = .ok (.goto 12, 3) := dk_167 0 12 (dk_at dksX8_sign_0 10 rfl rfl)
theorem dX8_sign_13 : decode cX8_sign 13 = .ok (.bipush 88, 2) := dk_16 88 (dk_at dksX8_sign_0 13 rfl rfl)
theorem dX8_sign_15 : decode cX8_sign 15 = .ok (.iload_n 0, 1) := dk_26 (dk_at dksX8_sign_0 15 rfl rfl)
theorem dX8_sign_16 : decode cX8_sign 16 = .ok (.iadd, 1) := dk_96 (dk_at dksX8_sign_0 16 rfl rfl)
theorem dX8_sign_17 : decode cX8_sign 17 = .ok (.bipush 9, 2) := dk_16 9 (dk_at dksX8_sign_0 17 rfl rfl)
theorem dX8_sign_19 : decode cX8_sign 19 = .ok (.isub, 1) := dk_100 (dk_at dksX8_sign_0 19 rfl rfl)
theorem dX8_sign_20 : decode cX8_sign 20 = .ok (.iconst 1, 1) := dk_4 (dk_at dksX8_sign_0 20 rfl rfl)
theorem dX8_sign_21 : decode cX8_sign 21 = .ok (.isub, 1) := dk_100 (dk_at dksX8_sign_0 21 rfl rfl)
theorem dX8_sign_22 : decode cX8_sign 22 = .ok (.i2c, 1) := dk_146 (dk_at dksX8_sign_0 22 rfl rfl)
theorem dX8_sign_23 : decode cX8_sign 23 = .ok (.ireturn, 1) := dk_172 (dk_at dksX8_sign_0 23 rfl rfl)
theorem q117 : (Jvm.Cond.initialized "MatchmakerRules$Pattern") ∈ lw_all := lw_g (lw_at lw_m1 21 rfl) rfl
theorem q505 : (Jvm.Cond.instanceMethod ({ cls := "MatchmakerRules$Pattern", name := "fits", desc := "(LMatchmakerRules$Fact;[I)Z" } : Jvm.MethodName)) ∈ lw_all := lw_g (lw_at lw_m2 169 rfl) rfl
theorem q506 : (Jvm.Cond.selects "MatchmakerRules$Pattern" ({ cls := "MatchmakerRules$Pattern", name := "fits", desc := "(LMatchmakerRules$Fact;[I)Z" } : Jvm.MethodName) ({ cls := "MatchmakerRules$Pattern", name := "fits", desc := "(LMatchmakerRules$Fact;[I)Z" } : Jvm.MethodName)) ∈ lw_all := lw_g (lw_at lw_m2 170 rfl) rfl
theorem q507 : (Jvm.Cond.code ({ cls := "MatchmakerRules$Pattern", name := "fits", desc := "(LMatchmakerRules$Fact;[I)Z" } : Jvm.MethodName) prog_8_method_2_code (3 : Nat) (Option.some Jvm.ClassFile.FieldType.boolean)) ∈ lw_all := lw_g (lw_at lw_m2 171 rfl) rfl
theorem q508 : (Jvm.Cond.methodLink "MatchmakerRules$Pattern" (31 : Nat) ({ cls := "MatchmakerRules$Pattern", name := "fits", desc := "(II[I)Z" } : Jvm.MethodName)) ∈ lw_all := lw_g (lw_at lw_m2 172 rfl) rfl
theorem q509 : (Jvm.Cond.privateMethod ({ cls := "MatchmakerRules$Pattern", name := "fits", desc := "(II[I)Z" } : Jvm.MethodName)) ∈ lw_tbl := lw_at lw_m2 173 rfl
theorem q510 : (Jvm.Cond.instanceMethod ({ cls := "MatchmakerRules$Pattern", name := "fits", desc := "(II[I)Z" } : Jvm.MethodName)) ∈ lw_all := lw_g (lw_at lw_m2 174 rfl) rfl
theorem q511 : (Jvm.Cond.instantiable "MatchmakerRules$Pattern" (2 : Nat)) ∈ lw_all := lw_g (lw_at lw_m2 175 rfl) rfl
theorem q512 : (Jvm.Cond.code ({ cls := "MatchmakerRules$Pattern", name := "fits", desc := "(II[I)Z" } : Jvm.MethodName) prog_8_method_3_code (7 : Nat) (Option.some Jvm.ClassFile.FieldType.boolean)) ∈ lw_all := lw_g (lw_at lw_m2 176 rfl) rfl
theorem q588 : (Jvm.Cond.selects "MatchmakerRules$Pattern" ({ cls := "java/lang/Object", name := "equals", desc := "(Ljava/lang/Object;)Z" } : Jvm.MethodName) ({ cls := "java/lang/Object", name := "equals", desc := "(Ljava/lang/Object;)Z" } : Jvm.MethodName)) ∈ lw_all := lw_g (lw_at lw_m3 12 rfl) rfl
theorem q818 : (Jvm.Cond.instanceMethod ({ cls := "MatchmakerRules$Pattern", name := "<init>", desc := "(C[I)V" } : Jvm.MethodName)) ∈ lw_all := lw_g (lw_at lw_m4 2 rfl) rfl
theorem q819 : (Jvm.Cond.code ({ cls := "MatchmakerRules$Pattern", name := "<init>", desc := "(C[I)V" } : Jvm.MethodName) prog_8_method_1_code (3 : Nat) (Option.none : Option Jvm.ClassFile.FieldType)) ∈ lw_all := lw_g (lw_at lw_m4 3 rfl) rfl
theorem q820 : (Jvm.Cond.methodLink "MatchmakerRules$Pattern" (3 : Nat) ({ cls := "java/lang/Object", name := "<init>", desc := "()V" } : Jvm.MethodName)) ∈ lw_all := lw_g (lw_at lw_m4 4 rfl) rfl
theorem q821 : (Jvm.Cond.methodLink "MatchmakerRules$Pattern" (15 : Nat) ({ cls := "[I", name := "clone", desc := "()Ljava/lang/Object;" } : Jvm.MethodName)) ∈ lw_all := lw_g (lw_at lw_m4 5 rfl) rfl
theorem q827 : (Jvm.Cond.classLink "MatchmakerRules$Pattern" (16 : Nat) "[I") ∈ lw_all := lw_g (lw_at lw_m4 11 rfl) rfl
theorem q828 : (Jvm.Cond.fieldLink "MatchmakerRules$Pattern" (9 : Nat) "MatchmakerRules$Pattern" "kind" "C") ∈ lw_all := lw_g (lw_at lw_m4 12 rfl) rfl
theorem q830 : (Jvm.Cond.fieldLink "MatchmakerRules$Pattern" (21 : Nat) "MatchmakerRules$Pattern" "terms" "[I") ∈ lw_all := lw_g (lw_at lw_m4 14 rfl) rfl
theorem q832 : (Jvm.Cond.laysFinal "MatchmakerRules$Pattern" "MatchmakerRules$Pattern" "kind" "C") ∈ lw_all := lw_g (lw_at lw_m4 16 rfl) rfl
theorem q833 : (Jvm.Cond.soleField "MatchmakerRules$Pattern" "kind") ∈ lw_all := lw_g (lw_at lw_m4 17 rfl) rfl
theorem q834 : (Jvm.Cond.laysFinal "MatchmakerRules$Pattern" "MatchmakerRules$Pattern" "terms" "[I") ∈ lw_all := lw_g (lw_at lw_m4 18 rfl) rfl
theorem q835 : (Jvm.Cond.soleField "MatchmakerRules$Pattern" "terms") ∈ lw_all := lw_g (lw_at lw_m4 19 rfl) rfl
theorem q836 : (Jvm.Cond.superclass "MatchmakerRules$Pattern" "java/lang/Object") ∈ lw_all := lw_g (lw_at lw_m4 20 rfl) rfl
theorem q946 : (Jvm.Cond.selects "MatchmakerRules$Pattern" ({ cls := "java/lang/Object", name := "getClass", desc := "()Ljava/lang/Class;" } : Jvm.MethodName) ({ cls := "java/lang/Object", name := "getClass", desc := "()Ljava/lang/Class;" } : Jvm.MethodName)) ∈ lw_all := lw_g (lw_at lw_m4 130 rfl) rfl
theorem q992 : (Jvm.Cond.fieldLinkNest "MatchmakerRules$Pattern" (24 : Nat) "MatchmakerRules$Fact" "kind" "C" "MatchmakerRules") ∈ lw_tbl := lw_at lw_m4 176 rfl
theorem q996 : (Jvm.Cond.fieldLinkNest "MatchmakerRules$Pattern" (27 : Nat) "MatchmakerRules$Fact" "first" "I" "MatchmakerRules") ∈ lw_tbl := lw_at lw_m4 180 rfl
theorem q1000 : (Jvm.Cond.fieldLinkNest "MatchmakerRules$Pattern" (35 : Nat) "MatchmakerRules$Fact" "second" "I" "MatchmakerRules") ∈ lw_tbl := lw_at lw_m4 184 rfl
theorem q1231 : (Jvm.Cond.instanceMethod ({ cls := "MatchmakerRules$Pattern", name := "person", desc := "(I[I)I" } : Jvm.MethodName)) ∈ lw_all := lw_g (lw_at lw_m5 175 rfl) rfl
theorem q1232 : (Jvm.Cond.selects "MatchmakerRules$Pattern" ({ cls := "MatchmakerRules$Pattern", name := "person", desc := "(I[I)I" } : Jvm.MethodName) ({ cls := "MatchmakerRules$Pattern", name := "person", desc := "(I[I)I" } : Jvm.MethodName)) ∈ lw_all := lw_g (lw_at lw_m5 176 rfl) rfl
theorem q1233 : (Jvm.Cond.code ({ cls := "MatchmakerRules$Pattern", name := "person", desc := "(I[I)I" } : Jvm.MethodName) prog_8_method_4_code (3 : Nat) (Option.some Jvm.ClassFile.FieldType.int)) ∈ lw_all := lw_g (lw_at lw_m5 177 rfl) rfl
theorem q1555 : (Jvm.Cond.instanceMethod ({ cls := "MatchmakerRules$Pattern", name := "tell", desc := "(Ljava/lang/StringBuilder;)V" } : Jvm.MethodName)) ∈ lw_all := lw_g (lw_at lw_m7 19 rfl) rfl
theorem q1556 : (Jvm.Cond.selects "MatchmakerRules$Pattern" ({ cls := "MatchmakerRules$Pattern", name := "tell", desc := "(Ljava/lang/StringBuilder;)V" } : Jvm.MethodName) ({ cls := "MatchmakerRules$Pattern", name := "tell", desc := "(Ljava/lang/StringBuilder;)V" } : Jvm.MethodName)) ∈ lw_all := lw_g (lw_at lw_m7 20 rfl) rfl
theorem q1557 : (Jvm.Cond.code ({ cls := "MatchmakerRules$Pattern", name := "tell", desc := "(Ljava/lang/StringBuilder;)V" } : Jvm.MethodName) prog_8_method_6_code (3 : Nat) (Option.none : Option Jvm.ClassFile.FieldType)) ∈ lw_all := lw_g (lw_at lw_m7 21 rfl) rfl
theorem q1558 : (Jvm.Cond.methodLink "MatchmakerRules$Pattern" (38 : Nat) ({ cls := "java/lang/StringBuilder", name := "append", desc := "(C)Ljava/lang/StringBuilder;" } : Jvm.MethodName)) ∈ lw_all := lw_g (lw_at lw_m7 22 rfl) rfl
theorem q1616 : (Jvm.Cond.methodLink "MatchmakerRules$Pattern" (44 : Nat) ({ cls := "MatchmakerRules$Pattern", name := "sign", desc := "(I)C" } : Jvm.MethodName)) ∈ lw_all := lw_g (lw_at lw_m7 80 rfl) rfl
theorem q1617 : (Jvm.Cond.static ({ cls := "MatchmakerRules$Pattern", name := "sign", desc := "(I)C" } : Jvm.MethodName)) ∈ lw_all := lw_g (lw_at lw_m7 81 rfl) rfl
theorem q1618 : (Jvm.Cond.code ({ cls := "MatchmakerRules$Pattern", name := "sign", desc := "(I)C" } : Jvm.MethodName) prog_8_method_5_code (1 : Nat) (Option.some Jvm.ClassFile.FieldType.char)) ∈ lw_all := lw_g (lw_at lw_m7 82 rfl) rfl
theorem q2537 : (Jvm.Cond.castable "MatchmakerRules$Pattern" "java/lang/Object") ∈ lw_tbl := lw_at lw_m11 41 rfl
theorem in_X8 : ∀ w ∈ wsX80, w ∈ lw_all := lw_in wsX80 [832, 834] (by decide +kernel) (by decide +kernel)
/-! MatchmakerRules$Rule -/
set_option maxRecDepth 100000
def RX9 : String := "MatchmakerRules$Rule"
def TX9 : u_T := fun k => match k with
  | 0 => ("MatchmakerRules$Rule", "first", "LMatchmakerRules$Pattern;", true)
  | 1 => ("MatchmakerRules$Rule", "second", "LMatchmakerRules$Pattern;", true)
  | 2 => ("MatchmakerRules$Rule", "isWish", "Z", true)
  | 3 => ("MatchmakerRules$Rule", "conclusion", "LMatchmakerRules$Pattern;", true)
  | _ => ("MatchmakerRules$Rule", "weight", "I", true)
def tyX9 : Nat → FieldType := fun k => match k with
  | 0 => .object "MatchmakerRules$Pattern"
  | 1 => .object "MatchmakerRules$Pattern"
  | 2 => .boolean
  | 3 => .object "MatchmakerRules$Pattern"
  | _ => .int
abbrev wsX90 : List Cond := u_ws RX9 TX9 5
theorem nmX9 : ∀ a, a < 5 → ∀ b, b < 5 → a ≠ b → (TX9 a).2.1 ≠ (TX9 b).2.1 := by decide +kernel
theorem tyX9_ok : ∀ k, k < 5 → parseFieldDescriptor (TX9 k).2.2.1 = some (tyX9 k) := by decide +kernel
abbrev cX9_wantsTwo : ByteArray := prog_10_method_2_code
def yX9_wantsTwo : MethodName := ⟨RX9, "wantsTwo", "()Z"⟩
def dkwX9_wantsTwo_0 : List UInt8 := [42, 180, 0, 13, 198, 0, 14, 42, 180, 0, 16, 154, 0, 7, 4, 167, 0, 4, 3, 172]
abbrev dktX9_wantsTwo_0 : List UInt8 := dkwX9_wantsTwo_0 ++ []
theorem dksX9_wantsTwo_0 : cX9_wantsTwo.data.toList.drop 0 = dktX9_wantsTwo_0 := by decide +kernel
theorem dX9_wantsTwo_0 : decode cX9_wantsTwo 0 = .ok (.aload_n 0, 1) := dk_42 (dk_at dksX9_wantsTwo_0 0 rfl rfl)
theorem dX9_wantsTwo_1 : decode cX9_wantsTwo 1 = .ok (.getfield 13, 3) := dk_180 0 13 (dk_at dksX9_wantsTwo_0 1 rfl rfl)
theorem dX9_wantsTwo_4 : decode cX9_wantsTwo 4 = .ok (.ifnull 14, 3) := dk_198 0 14 (dk_at dksX9_wantsTwo_0 4 rfl rfl)
theorem dX9_wantsTwo_7 : decode cX9_wantsTwo 7 = .ok (.aload_n 0, 1) := dk_42 (dk_at dksX9_wantsTwo_0 7 rfl rfl)
theorem dX9_wantsTwo_8 : decode cX9_wantsTwo 8 = .ok (.getfield 16, 3) := dk_180 0 16 (dk_at dksX9_wantsTwo_0 8 rfl rfl)
theorem dX9_wantsTwo_11 : decode cX9_wantsTwo 11 = .ok (.ifCond .ne 7, 3) := dk_154 0 7 (dk_at dksX9_wantsTwo_0 11 rfl rfl)
theorem dX9_wantsTwo_14 : decode cX9_wantsTwo 14 = .ok (.iconst 1, 1) := dk_4 (dk_at dksX9_wantsTwo_0 14 rfl rfl)
theorem dX9_wantsTwo_15 : decode cX9_wantsTwo 15 = .ok (.goto 4, 3) := dk_167 0 4 (dk_at dksX9_wantsTwo_0 15 rfl rfl)
theorem dX9_wantsTwo_18 : decode cX9_wantsTwo 18 = .ok (.iconst 0, 1) := dk_3 (dk_at dksX9_wantsTwo_0 18 rfl rfl)
theorem dX9_wantsTwo_19 : decode cX9_wantsTwo 19 = .ok (.ireturn, 1) := dk_172 (dk_at dksX9_wantsTwo_0 19 rfl rfl)
abbrev cX9_init : ByteArray := prog_10_method_1_code
def yX9_init : MethodName := ⟨RX9, "<init>", "(LMatchmakerRules$Pattern;LMatchmakerRules$Pattern;ZLMatchmakerRules$Pattern;I)V"⟩
def dkwX9_init_1 : List UInt8 := [181, 0, 20, 42, 21, 5, 181, 0, 23, 177]
abbrev dktX9_init_1 : List UInt8 := dkwX9_init_1 ++ []
def dkwX9_init_0 : List UInt8 := [42, 183, 0, 1, 42, 43, 181, 0, 7, 42, 44, 181, 0, 13, 42, 29, 181, 0, 16, 42, 25, 4]
abbrev dktX9_init_0 : List UInt8 := dkwX9_init_0 ++ dktX9_init_1
theorem dksX9_init_0 : cX9_init.data.toList.drop 0 = dktX9_init_0 := by decide +kernel
theorem dksX9_init_1 : cX9_init.data.toList.drop 22 = dktX9_init_1 := dk_seg dksX9_init_0 22 rfl rfl
theorem dX9_init_0 : decode cX9_init 0 = .ok (.aload_n 0, 1) := dk_42 (dk_at dksX9_init_0 0 rfl rfl)
theorem dX9_init_1 : decode cX9_init 1 = .ok (.invokespecial 1, 3) := dk_183 0 1 (dk_at dksX9_init_0 1 rfl rfl)
theorem dX9_init_4 : decode cX9_init 4 = .ok (.aload_n 0, 1) := dk_42 (dk_at dksX9_init_0 4 rfl rfl)
theorem dX9_init_5 : decode cX9_init 5 = .ok (.aload_n 1, 1) := dk_43 (dk_at dksX9_init_0 5 rfl rfl)
theorem dX9_init_6 : decode cX9_init 6 = .ok (.putfield 7, 3) := dk_181 0 7 (dk_at dksX9_init_0 6 rfl rfl)
theorem dX9_init_9 : decode cX9_init 9 = .ok (.aload_n 0, 1) := dk_42 (dk_at dksX9_init_0 9 rfl rfl)
theorem dX9_init_10 : decode cX9_init 10 = .ok (.aload_n 2, 1) := dk_44 (dk_at dksX9_init_0 10 rfl rfl)
theorem dX9_init_11 : decode cX9_init 11 = .ok (.putfield 13, 3) := dk_181 0 13 (dk_at dksX9_init_0 11 rfl rfl)
theorem dX9_init_14 : decode cX9_init 14 = .ok (.aload_n 0, 1) := dk_42 (dk_at dksX9_init_0 14 rfl rfl)
theorem dX9_init_15 : decode cX9_init 15 = .ok (.iload_n 3, 1) := dk_29 (dk_at dksX9_init_0 15 rfl rfl)
theorem dX9_init_16 : decode cX9_init 16 = .ok (.putfield 16, 3) := dk_181 0 16 (dk_at dksX9_init_0 16 rfl rfl)
theorem dX9_init_19 : decode cX9_init 19 = .ok (.aload_n 0, 1) := dk_42 (dk_at dksX9_init_0 19 rfl rfl)
theorem dX9_init_20 : decode cX9_init 20 = .ok (.aload 4, 2) := dk_25 4 (dk_at dksX9_init_0 20 rfl rfl)
theorem dX9_init_22 : decode cX9_init 22 = .ok (.putfield 20, 3) := dk_181 0 20 (dk_at dksX9_init_1 0 rfl rfl)
theorem dX9_init_25 : decode cX9_init 25 = .ok (.aload_n 0, 1) := dk_42 (dk_at dksX9_init_1 3 rfl rfl)
theorem dX9_init_26 : decode cX9_init 26 = .ok (.iload 5, 2) := dk_21 5 (dk_at dksX9_init_1 4 rfl rfl)
theorem dX9_init_28 : decode cX9_init 28 = .ok (.putfield 23, 3) := dk_181 0 23 (dk_at dksX9_init_1 6 rfl rfl)
theorem dX9_init_31 : decode cX9_init 31 = .ok (.return_, 1) := dk_177 (dk_at dksX9_init_1 9 rfl rfl)
abbrev cX9_told : ByteArray := prog_10_method_3_code
def yX9_told : MethodName := ⟨RX9, "told", "()Ljava/lang/String;"⟩
def dkwX9_told_3 : List UInt8 := [42, 180, 0, 23, 182, 0, 40, 182, 0, 43, 176]
abbrev dktX9_told_3 : List UInt8 := dkwX9_told_3 ++ []
def dkwX9_told_2 : List UInt8 := [182, 0, 30, 43, 16, 62, 182, 0, 36, 77, 42, 180, 0, 20, 44, 182, 0, 30, 44, 16, 42, 182, 0, 36]
abbrev dktX9_told_2 : List UInt8 := dkwX9_told_2 ++ dktX9_told_3
def dkwX9_told_1 : List UInt8 := [180, 0, 16, 153, 0, 12, 43, 16, 33, 182, 0, 36, 167, 0, 4, 43, 77, 42, 180, 0, 13, 44]
abbrev dktX9_told_1 : List UInt8 := dkwX9_told_1 ++ dktX9_told_2
def dkwX9_told_0 : List UInt8 := [187, 0, 27, 89, 183, 0, 29, 76, 42, 180, 0, 7, 43, 182, 0, 30, 42, 180, 0, 13, 198, 0, 29, 42]
abbrev dktX9_told_0 : List UInt8 := dkwX9_told_0 ++ dktX9_told_1
theorem dksX9_told_0 : cX9_told.data.toList.drop 0 = dktX9_told_0 := by decide +kernel
theorem dksX9_told_1 : cX9_told.data.toList.drop 24 = dktX9_told_1 := dk_seg dksX9_told_0 24 rfl rfl
theorem dksX9_told_2 : cX9_told.data.toList.drop 46 = dktX9_told_2 := dk_seg dksX9_told_1 22 rfl rfl
theorem dksX9_told_3 : cX9_told.data.toList.drop 70 = dktX9_told_3 := dk_seg dksX9_told_2 24 rfl rfl
theorem dX9_told_0 : decode cX9_told 0 = .ok (.new 27, 3) := dk_187 0 27 (dk_at dksX9_told_0 0 rfl rfl)
theorem dX9_told_3 : decode cX9_told 3 = .ok (.dup, 1) := dk_89 (dk_at dksX9_told_0 3 rfl rfl)
theorem dX9_told_4 : decode cX9_told 4 = .ok (.invokespecial 29, 3) := dk_183 0 29 (dk_at dksX9_told_0 4 rfl rfl)
theorem dX9_told_7 : decode cX9_told 7 = .ok (.astore_n 1, 1) := dk_76 (dk_at dksX9_told_0 7 rfl rfl)
theorem dX9_told_8 : decode cX9_told 8 = .ok (.aload_n 0, 1) := dk_42 (dk_at dksX9_told_0 8 rfl rfl)
theorem dX9_told_9 : decode cX9_told 9 = .ok (.getfield 7, 3) := dk_180 0 7 (dk_at dksX9_told_0 9 rfl rfl)
theorem dX9_told_12 : decode cX9_told 12 = .ok (.aload_n 1, 1) := dk_43 (dk_at dksX9_told_0 12 rfl rfl)
theorem dX9_told_13 : decode cX9_told 13 = .ok (.invokevirtual 30, 3) := dk_182 0 30 (dk_at dksX9_told_0 13 rfl rfl)
theorem dX9_told_16 : decode cX9_told 16 = .ok (.aload_n 0, 1) := dk_42 (dk_at dksX9_told_0 16 rfl rfl)
theorem dX9_told_17 : decode cX9_told 17 = .ok (.getfield 13, 3) := dk_180 0 13 (dk_at dksX9_told_0 17 rfl rfl)
theorem dX9_told_20 : decode cX9_told 20 = .ok (.ifnull 29, 3) := dk_198 0 29 (dk_at dksX9_told_0 20 rfl rfl)
theorem dX9_told_23 : decode cX9_told 23 = .ok (.aload_n 0, 1) := dk_42 (dk_at dksX9_told_0 23 rfl rfl)
theorem dX9_told_24 : decode cX9_told 24 = .ok (.getfield 16, 3) := dk_180 0 16 (dk_at dksX9_told_1 0 rfl rfl)
theorem dX9_told_27 : decode cX9_told 27 = .ok (.ifCond .eq 12, 3) := dk_153 0 12 (dk_at dksX9_told_1 3 rfl rfl)
theorem dX9_told_30 : decode cX9_told 30 = .ok (.aload_n 1, 1) := dk_43 (dk_at dksX9_told_1 6 rfl rfl)
theorem dX9_told_31 : decode cX9_told 31 = .ok (.bipush 33, 2) := dk_16 33 (dk_at dksX9_told_1 7 rfl rfl)
theorem dX9_told_33 : decode cX9_told 33 = .ok (.invokevirtual 36, 3) := dk_182 0 36 (dk_at dksX9_told_1 9 rfl rfl)
theorem dX9_told_36 : decode cX9_told 36 = .ok (.goto 4, 3) := dk_167 0 4 (dk_at dksX9_told_1 12 rfl rfl)
theorem dX9_told_39 : decode cX9_told 39 = .ok (.aload_n 1, 1) := dk_43 (dk_at dksX9_told_1 15 rfl rfl)
theorem dX9_told_40 : decode cX9_told 40 = .ok (.astore_n 2, 1) := dk_77 (dk_at dksX9_told_1 16 rfl rfl)
theorem dX9_told_41 : decode cX9_told 41 = .ok (.aload_n 0, 1) := dk_42 (dk_at dksX9_told_1 17 rfl rfl)
theorem dX9_told_42 : decode cX9_told 42 = .ok (.getfield 13, 3) := dk_180 0 13 (dk_at dksX9_told_1 18 rfl rfl)
theorem dX9_told_45 : decode cX9_told 45 = .ok (.aload_n 2, 1) := dk_44 (dk_at dksX9_told_1 21 rfl rfl)
theorem dX9_told_46 : decode cX9_told 46 = .ok (.invokevirtual 30, 3) := dk_182 0 30 (dk_at dksX9_told_2 0 rfl rfl)
theorem dX9_told_49 : decode cX9_told 49 = .ok (.aload_n 1, 1) := dk_43 (dk_at dksX9_told_2 3 rfl rfl)
theorem dX9_told_50 : decode cX9_told 50 = .ok (.bipush 62, 2) := dk_16 62 (dk_at dksX9_told_2 4 rfl rfl)
theorem dX9_told_52 : decode cX9_told 52 = .ok (.invokevirtual 36, 3) := dk_182 0 36 (dk_at dksX9_told_2 6 rfl rfl)
theorem dX9_told_55 : decode cX9_told 55 = .ok (.astore_n 2, 1) := dk_77 (dk_at dksX9_told_2 9 rfl rfl)
theorem dX9_told_56 : decode cX9_told 56 = .ok (.aload_n 0, 1) := dk_42 (dk_at dksX9_told_2 10 rfl rfl)
theorem dX9_told_57 : decode cX9_told 57 = .ok (.getfield 20, 3) := dk_180 0 20 (dk_at dksX9_told_2 11 rfl rfl)
theorem dX9_told_60 : decode cX9_told 60 = .ok (.aload_n 2, 1) := dk_44 (dk_at dksX9_told_2 14 rfl rfl)
theorem dX9_told_61 : decode cX9_told 61 = .ok (.invokevirtual 30, 3) := dk_182 0 30 (dk_at dksX9_told_2 15 rfl rfl)
theorem dX9_told_64 : decode cX9_told 64 = .ok (.aload_n 2, 1) := dk_44 (dk_at dksX9_told_2 18 rfl rfl)
theorem dX9_told_65 : decode cX9_told 65 = .ok (.bipush 42, 2) := dk_16 42 (dk_at dksX9_told_2 19 rfl rfl)
theorem dX9_told_67 : decode cX9_told 67 = .ok (.invokevirtual 36, 3) := dk_182 0 36 (dk_at dksX9_told_2 21 rfl rfl)
theorem dX9_told_70 : decode cX9_told 70 = .ok (.aload_n 0, 1) := dk_42 (dk_at dksX9_told_3 0 rfl rfl)
theorem dX9_told_71 : decode cX9_told 71 = .ok (.getfield 23, 3) := dk_180 0 23 (dk_at dksX9_told_3 1 rfl rfl)
theorem dX9_told_74 : decode cX9_told 74 = .ok (.invokevirtual 40, 3) := dk_182 0 40 (dk_at dksX9_told_3 4 rfl rfl)
theorem dX9_told_77 : decode cX9_told 77 = .ok (.invokevirtual 43, 3) := dk_182 0 43 (dk_at dksX9_told_3 7 rfl rfl)
theorem dX9_told_80 : decode cX9_told 80 = .ok (.areturn, 1) := dk_176 (dk_at dksX9_told_3 10 rfl rfl)
theorem q118 : (Jvm.Cond.initialized "MatchmakerRules$Rule") ∈ lw_all := lw_g (lw_at lw_m1 22 rfl) rfl
theorem q525 : (Jvm.Cond.instanceMethod ({ cls := "MatchmakerRules$Rule", name := "wantsTwo", desc := "()Z" } : Jvm.MethodName)) ∈ lw_all := lw_g (lw_at lw_m2 189 rfl) rfl
theorem q526 : (Jvm.Cond.selects "MatchmakerRules$Rule" ({ cls := "MatchmakerRules$Rule", name := "wantsTwo", desc := "()Z" } : Jvm.MethodName) ({ cls := "MatchmakerRules$Rule", name := "wantsTwo", desc := "()Z" } : Jvm.MethodName)) ∈ lw_all := lw_g (lw_at lw_m2 190 rfl) rfl
theorem q527 : (Jvm.Cond.code ({ cls := "MatchmakerRules$Rule", name := "wantsTwo", desc := "()Z" } : Jvm.MethodName) prog_10_method_2_code (1 : Nat) (Option.some Jvm.ClassFile.FieldType.boolean)) ∈ lw_all := lw_g (lw_at lw_m2 191 rfl) rfl
theorem q590 : (Jvm.Cond.selects "MatchmakerRules$Rule" ({ cls := "java/lang/Object", name := "equals", desc := "(Ljava/lang/Object;)Z" } : Jvm.MethodName) ({ cls := "java/lang/Object", name := "equals", desc := "(Ljava/lang/Object;)Z" } : Jvm.MethodName)) ∈ lw_all := lw_g (lw_at lw_m3 14 rfl) rfl
theorem q841 : (Jvm.Cond.instantiable "MatchmakerRules$Rule" (5 : Nat)) ∈ lw_all := lw_g (lw_at lw_m4 25 rfl) rfl
theorem q843 : (Jvm.Cond.instanceMethod ({ cls := "MatchmakerRules$Rule", name := "<init>", desc := "(LMatchmakerRules$Pattern;LMatchmakerRules$Pattern;ZLMatchmakerRules$Pattern;I)V" } : Jvm.MethodName)) ∈ lw_all := lw_g (lw_at lw_m4 27 rfl) rfl
theorem q844 : (Jvm.Cond.code ({ cls := "MatchmakerRules$Rule", name := "<init>", desc := "(LMatchmakerRules$Pattern;LMatchmakerRules$Pattern;ZLMatchmakerRules$Pattern;I)V" } : Jvm.MethodName) prog_10_method_1_code (6 : Nat) (Option.none : Option Jvm.ClassFile.FieldType)) ∈ lw_all := lw_g (lw_at lw_m4 28 rfl) rfl
theorem q845 : (Jvm.Cond.methodLink "MatchmakerRules$Rule" (1 : Nat) ({ cls := "java/lang/Object", name := "<init>", desc := "()V" } : Jvm.MethodName)) ∈ lw_all := lw_g (lw_at lw_m4 29 rfl) rfl
theorem q846 : (Jvm.Cond.fieldLink "MatchmakerRules$Rule" (7 : Nat) "MatchmakerRules$Rule" "first" "LMatchmakerRules$Pattern;") ∈ lw_all := lw_g (lw_at lw_m4 30 rfl) rfl
theorem q849 : (Jvm.Cond.fieldLink "MatchmakerRules$Rule" (13 : Nat) "MatchmakerRules$Rule" "second" "LMatchmakerRules$Pattern;") ∈ lw_all := lw_g (lw_at lw_m4 33 rfl) rfl
theorem q852 : (Jvm.Cond.fieldLink "MatchmakerRules$Rule" (16 : Nat) "MatchmakerRules$Rule" "isWish" "Z") ∈ lw_all := lw_g (lw_at lw_m4 36 rfl) rfl
theorem q854 : (Jvm.Cond.fieldLink "MatchmakerRules$Rule" (20 : Nat) "MatchmakerRules$Rule" "conclusion" "LMatchmakerRules$Pattern;") ∈ lw_all := lw_g (lw_at lw_m4 38 rfl) rfl
theorem q856 : (Jvm.Cond.fieldLink "MatchmakerRules$Rule" (23 : Nat) "MatchmakerRules$Rule" "weight" "I") ∈ lw_all := lw_g (lw_at lw_m4 40 rfl) rfl
theorem q858 : (Jvm.Cond.laysFinal "MatchmakerRules$Rule" "MatchmakerRules$Rule" "first" "LMatchmakerRules$Pattern;") ∈ lw_all := lw_g (lw_at lw_m4 42 rfl) rfl
theorem q859 : (Jvm.Cond.soleField "MatchmakerRules$Rule" "first") ∈ lw_all := lw_g (lw_at lw_m4 43 rfl) rfl
theorem q860 : (Jvm.Cond.laysFinal "MatchmakerRules$Rule" "MatchmakerRules$Rule" "second" "LMatchmakerRules$Pattern;") ∈ lw_all := lw_g (lw_at lw_m4 44 rfl) rfl
theorem q861 : (Jvm.Cond.soleField "MatchmakerRules$Rule" "second") ∈ lw_all := lw_g (lw_at lw_m4 45 rfl) rfl
theorem q862 : (Jvm.Cond.laysFinal "MatchmakerRules$Rule" "MatchmakerRules$Rule" "isWish" "Z") ∈ lw_all := lw_g (lw_at lw_m4 46 rfl) rfl
theorem q863 : (Jvm.Cond.soleField "MatchmakerRules$Rule" "isWish") ∈ lw_all := lw_g (lw_at lw_m4 47 rfl) rfl
theorem q864 : (Jvm.Cond.laysFinal "MatchmakerRules$Rule" "MatchmakerRules$Rule" "conclusion" "LMatchmakerRules$Pattern;") ∈ lw_all := lw_g (lw_at lw_m4 48 rfl) rfl
theorem q865 : (Jvm.Cond.soleField "MatchmakerRules$Rule" "conclusion") ∈ lw_all := lw_g (lw_at lw_m4 49 rfl) rfl
theorem q866 : (Jvm.Cond.laysFinal "MatchmakerRules$Rule" "MatchmakerRules$Rule" "weight" "I") ∈ lw_all := lw_g (lw_at lw_m4 50 rfl) rfl
theorem q867 : (Jvm.Cond.soleField "MatchmakerRules$Rule" "weight") ∈ lw_all := lw_g (lw_at lw_m4 51 rfl) rfl
theorem q868 : (Jvm.Cond.superclass "MatchmakerRules$Rule" "java/lang/Object") ∈ lw_all := lw_g (lw_at lw_m4 52 rfl) rfl
theorem q948 : (Jvm.Cond.selects "MatchmakerRules$Rule" ({ cls := "java/lang/Object", name := "getClass", desc := "()Ljava/lang/Class;" } : Jvm.MethodName) ({ cls := "java/lang/Object", name := "getClass", desc := "()Ljava/lang/Class;" } : Jvm.MethodName)) ∈ lw_all := lw_g (lw_at lw_m4 132 rfl) rfl
theorem q1549 : (Jvm.Cond.instanceMethod ({ cls := "MatchmakerRules$Rule", name := "told", desc := "()Ljava/lang/String;" } : Jvm.MethodName)) ∈ lw_all := lw_g (lw_at lw_m7 13 rfl) rfl
theorem q1550 : (Jvm.Cond.selects "MatchmakerRules$Rule" ({ cls := "MatchmakerRules$Rule", name := "told", desc := "()Ljava/lang/String;" } : Jvm.MethodName) ({ cls := "MatchmakerRules$Rule", name := "told", desc := "()Ljava/lang/String;" } : Jvm.MethodName)) ∈ lw_all := lw_g (lw_at lw_m7 14 rfl) rfl
theorem q1551 : (Jvm.Cond.code ({ cls := "MatchmakerRules$Rule", name := "told", desc := "()Ljava/lang/String;" } : Jvm.MethodName) prog_10_method_3_code (3 : Nat) (Option.some (Jvm.ClassFile.FieldType.object "java/lang/String"))) ∈ lw_all := lw_g (lw_at lw_m7 15 rfl) rfl
theorem q1552 : (Jvm.Cond.classLink "MatchmakerRules$Rule" (27 : Nat) "java/lang/StringBuilder") ∈ lw_all := lw_g (lw_at lw_m7 16 rfl) rfl
theorem q1553 : (Jvm.Cond.methodLink "MatchmakerRules$Rule" (29 : Nat) ({ cls := "java/lang/StringBuilder", name := "<init>", desc := "()V" } : Jvm.MethodName)) ∈ lw_all := lw_g (lw_at lw_m7 17 rfl) rfl
theorem q1554 : (Jvm.Cond.methodLink "MatchmakerRules$Rule" (30 : Nat) ({ cls := "MatchmakerRules$Pattern", name := "tell", desc := "(Ljava/lang/StringBuilder;)V" } : Jvm.MethodName)) ∈ lw_all := lw_g (lw_at lw_m7 18 rfl) rfl
theorem q1619 : (Jvm.Cond.methodLink "MatchmakerRules$Rule" (36 : Nat) ({ cls := "java/lang/StringBuilder", name := "append", desc := "(C)Ljava/lang/StringBuilder;" } : Jvm.MethodName)) ∈ lw_all := lw_g (lw_at lw_m7 83 rfl) rfl
theorem q1620 : (Jvm.Cond.methodLink "MatchmakerRules$Rule" (40 : Nat) ({ cls := "java/lang/StringBuilder", name := "append", desc := "(I)Ljava/lang/StringBuilder;" } : Jvm.MethodName)) ∈ lw_all := lw_g (lw_at lw_m7 84 rfl) rfl
theorem q1654 : (Jvm.Cond.methodLink "MatchmakerRules$Rule" (43 : Nat) ({ cls := "java/lang/StringBuilder", name := "toString", desc := "()Ljava/lang/String;" } : Jvm.MethodName)) ∈ lw_all := lw_g (lw_at lw_m7 118 rfl) rfl
theorem q2538 : (Jvm.Cond.castable "MatchmakerRules$Rule" "java/lang/Object") ∈ lw_tbl := lw_at lw_m11 42 rfl
theorem in_X9 : ∀ w ∈ wsX90, w ∈ lw_all := lw_in wsX90 [858, 860, 862, 864, 866] (by decide +kernel) (by decide +kernel)
/-! MatchmakerRules$Fact -/
set_option maxRecDepth 100000
def RX10 : String := "MatchmakerRules$Fact"
def TX10 : u_T := fun k => match k with
  | 0 => ("MatchmakerRules$Fact", "number", "I", true)
  | 1 => ("MatchmakerRules$Fact", "kind", "C", true)
  | 2 => ("MatchmakerRules$Fact", "first", "I", true)
  | 3 => ("MatchmakerRules$Fact", "second", "I", true)
  | 4 => ("MatchmakerRules$Fact", "trust", "F", true)
  | 5 => ("MatchmakerRules$Fact", "since", "I", true)
  | 6 => ("MatchmakerRules$Fact", "isTold", "Z", false)
  | 7 => ("MatchmakerRules$Fact", "reasons", "Ljava/util/ArrayList;", true)
  | _ => ("MatchmakerRules$Fact", "fired", "Ljava/util/ArrayList;", true)
def tyX10 : Nat → FieldType := fun k => match k with
  | 0 => .int
  | 1 => .char
  | 2 => .int
  | 3 => .int
  | 4 => .float
  | 5 => .int
  | 6 => .boolean
  | 7 => .object "java/util/ArrayList"
  | _ => .object "java/util/ArrayList"
abbrev wsX100 : List Cond := u_ws RX10 TX10 9
theorem nmX10 : ∀ a, a < 9 → ∀ b, b < 9 → a ≠ b → (TX10 a).2.1 ≠ (TX10 b).2.1 := by decide +kernel
theorem tyX10_ok : ∀ k, k < 9 → parseFieldDescriptor (TX10 k).2.2.1 = some (tyX10 k) := by decide +kernel
abbrev cX10_is : ByteArray := prog_5_method_3_code
def yX10_is : MethodName := ⟨RX10, "is", "(CII)Z"⟩
def dkwX10_is_1 : List UInt8 := [4, 167, 0, 4, 3, 172]
abbrev dktX10_is_1 : List UInt8 := dkwX10_is_1 ++ []
def dkwX10_is_0 : List UInt8 := [42, 180, 0, 23, 27, 160, 0, 23, 42, 180, 0, 27, 28, 160, 0, 15, 42, 180, 0, 30, 29, 160, 0, 7]
abbrev dktX10_is_0 : List UInt8 := dkwX10_is_0 ++ dktX10_is_1
theorem dksX10_is_0 : cX10_is.data.toList.drop 0 = dktX10_is_0 := by decide +kernel
theorem dksX10_is_1 : cX10_is.data.toList.drop 24 = dktX10_is_1 := dk_seg dksX10_is_0 24 rfl rfl
theorem dX10_is_0 : decode cX10_is 0 = .ok (.aload_n 0, 1) := dk_42 (dk_at dksX10_is_0 0 rfl rfl)
theorem dX10_is_1 : decode cX10_is 1 = .ok (.getfield 23, 3) := dk_180 0 23 (dk_at dksX10_is_0 1 rfl rfl)
theorem dX10_is_4 : decode cX10_is 4 = .ok (.iload_n 1, 1) := dk_27 (dk_at dksX10_is_0 4 rfl rfl)
theorem dX10_is_5 : decode cX10_is 5 = .ok (.if_icmp .ne 23, 3) := dk_160 0 23 (dk_at dksX10_is_0 5 rfl rfl)
theorem dX10_is_8 : decode cX10_is 8 = .ok (.aload_n 0, 1) := dk_42 (dk_at dksX10_is_0 8 rfl rfl)
theorem dX10_is_9 : decode cX10_is 9 = .ok (.getfield 27, 3) := dk_180 0 27 (dk_at dksX10_is_0 9 rfl rfl)
theorem dX10_is_12 : decode cX10_is 12 = .ok (.iload_n 2, 1) := dk_28 (dk_at dksX10_is_0 12 rfl rfl)
theorem dX10_is_13 : decode cX10_is 13 = .ok (.if_icmp .ne 15, 3) := dk_160 0 15 (dk_at dksX10_is_0 13 rfl rfl)
theorem dX10_is_16 : decode cX10_is 16 = .ok (.aload_n 0, 1) := dk_42 (dk_at dksX10_is_0 16 rfl rfl)
theorem dX10_is_17 : decode cX10_is 17 = .ok (.getfield 30, 3) := dk_180 0 30 (dk_at dksX10_is_0 17 rfl rfl)
theorem dX10_is_20 : decode cX10_is 20 = .ok (.iload_n 3, 1) := dk_29 (dk_at dksX10_is_0 20 rfl rfl)
theorem dX10_is_21 : decode cX10_is 21 = .ok (.if_icmp .ne 7, 3) := dk_160 0 7 (dk_at dksX10_is_0 21 rfl rfl)
theorem dX10_is_24 : decode cX10_is 24 = .ok (.iconst 1, 1) := dk_4 (dk_at dksX10_is_1 0 rfl rfl)
theorem dX10_is_25 : decode cX10_is 25 = .ok (.goto 4, 3) := dk_167 0 4 (dk_at dksX10_is_1 1 rfl rfl)
theorem dX10_is_28 : decode cX10_is 28 = .ok (.iconst 0, 1) := dk_3 (dk_at dksX10_is_1 4 rfl rfl)
theorem dX10_is_29 : decode cX10_is 29 = .ok (.ireturn, 1) := dk_172 (dk_at dksX10_is_1 5 rfl rfl)
abbrev cX10_copy : ByteArray := prog_5_method_2_code
def yX10_copy : MethodName := ⟨RX10, "copy", "()LMatchmakerRules$Fact;"⟩
def dkwX10_copy_5 : List UInt8 := [167, 255, 227, 43, 176]
abbrev dktX10_copy_5 : List UInt8 := dkwX10_copy_5 ++ []
def dkwX10_copy_4 : List UInt8 := [153, 0, 26, 44, 185, 0, 57, 1, 0, 192, 0, 61, 78, 43, 180, 0, 16, 45, 182, 0, 63, 54, 4]
abbrev dktX10_copy_4 : List UInt8 := dkwX10_copy_4 ++ dktX10_copy_5
def dkwX10_copy_3 : List UInt8 := [182, 0, 63, 54, 4, 167, 255, 227, 42, 180, 0, 16, 182, 0, 47, 77, 44, 185, 0, 51, 1, 0]
abbrev dktX10_copy_3 : List UInt8 := dkwX10_copy_3 ++ dktX10_copy_4
def dkwX10_copy_2 : List UInt8 := [44, 185, 0, 51, 1, 0, 153, 0, 26, 44, 185, 0, 57, 1, 0, 192, 0, 61, 78, 43, 180, 0, 10, 45]
abbrev dktX10_copy_2 : List UInt8 := dkwX10_copy_2 ++ dktX10_copy_3
def dkwX10_copy_1 : List UInt8 := [42, 180, 0, 37, 183, 0, 40, 76, 43, 42, 180, 0, 43, 181, 0, 43, 42, 180, 0, 10, 182, 0, 47, 77]
abbrev dktX10_copy_1 : List UInt8 := dkwX10_copy_1 ++ dktX10_copy_2
def dkwX10_copy_0 : List UInt8 := [187, 0, 11, 89, 42, 180, 0, 19, 42, 180, 0, 23, 42, 180, 0, 27, 42, 180, 0, 30, 42, 180, 0, 33]
abbrev dktX10_copy_0 : List UInt8 := dkwX10_copy_0 ++ dktX10_copy_1
theorem dksX10_copy_0 : cX10_copy.data.toList.drop 0 = dktX10_copy_0 := by decide +kernel
theorem dksX10_copy_1 : cX10_copy.data.toList.drop 24 = dktX10_copy_1 := dk_seg dksX10_copy_0 24 rfl rfl
theorem dksX10_copy_2 : cX10_copy.data.toList.drop 48 = dktX10_copy_2 := dk_seg dksX10_copy_1 24 rfl rfl
theorem dksX10_copy_3 : cX10_copy.data.toList.drop 72 = dktX10_copy_3 := dk_seg dksX10_copy_2 24 rfl rfl
theorem dksX10_copy_4 : cX10_copy.data.toList.drop 94 = dktX10_copy_4 := dk_seg dksX10_copy_3 22 rfl rfl
theorem dksX10_copy_5 : cX10_copy.data.toList.drop 117 = dktX10_copy_5 := dk_seg dksX10_copy_4 23 rfl rfl
theorem dX10_copy_0 : decode cX10_copy 0 = .ok (.new 11, 3) := dk_187 0 11 (dk_at dksX10_copy_0 0 rfl rfl)
theorem dX10_copy_3 : decode cX10_copy 3 = .ok (.dup, 1) := dk_89 (dk_at dksX10_copy_0 3 rfl rfl)
theorem dX10_copy_4 : decode cX10_copy 4 = .ok (.aload_n 0, 1) := dk_42 (dk_at dksX10_copy_0 4 rfl rfl)
theorem dX10_copy_5 : decode cX10_copy 5 = .ok (.getfield 19, 3) := dk_180 0 19 (dk_at dksX10_copy_0 5 rfl rfl)
theorem dX10_copy_8 : decode cX10_copy 8 = .ok (.aload_n 0, 1) := dk_42 (dk_at dksX10_copy_0 8 rfl rfl)
theorem dX10_copy_9 : decode cX10_copy 9 = .ok (.getfield 23, 3) := dk_180 0 23 (dk_at dksX10_copy_0 9 rfl rfl)
theorem dX10_copy_12 : decode cX10_copy 12 = .ok (.aload_n 0, 1) := dk_42 (dk_at dksX10_copy_0 12 rfl rfl)
theorem dX10_copy_13 : decode cX10_copy 13 = .ok (.getfield 27, 3) := dk_180 0 27 (dk_at dksX10_copy_0 13 rfl rfl)
theorem dX10_copy_16 : decode cX10_copy 16 = .ok (.aload_n 0, 1) := dk_42 (dk_at dksX10_copy_0 16 rfl rfl)
theorem dX10_copy_17 : decode cX10_copy 17 = .ok (.getfield 30, 3) := dk_180 0 30 (dk_at dksX10_copy_0 17 rfl rfl)
theorem dX10_copy_20 : decode cX10_copy 20 = .ok (.aload_n 0, 1) := dk_42 (dk_at dksX10_copy_0 20 rfl rfl)
theorem dX10_copy_21 : decode cX10_copy 21 = .ok (.getfield 33, 3) := dk_180 0 33 (dk_at dksX10_copy_0 21 rfl rfl)
theorem dX10_copy_24 : decode cX10_copy 24 = .ok (.aload_n 0, 1) := dk_42 (dk_at dksX10_copy_1 0 rfl rfl)
theorem dX10_copy_25 : decode cX10_copy 25 = .ok (.getfield 37, 3) := dk_180 0 37 (dk_at dksX10_copy_1 1 rfl rfl)
theorem dX10_copy_28 : decode cX10_copy 28 = .ok (.invokespecial 40, 3) := dk_183 0 40 (dk_at dksX10_copy_1 4 rfl rfl)
theorem dX10_copy_31 : decode cX10_copy 31 = .ok (.astore_n 1, 1) := dk_76 (dk_at dksX10_copy_1 7 rfl rfl)
theorem dX10_copy_32 : decode cX10_copy 32 = .ok (.aload_n 1, 1) := dk_43 (dk_at dksX10_copy_1 8 rfl rfl)
theorem dX10_copy_33 : decode cX10_copy 33 = .ok (.aload_n 0, 1) := dk_42 (dk_at dksX10_copy_1 9 rfl rfl)
theorem dX10_copy_34 : decode cX10_copy 34 = .ok (.getfield 43, 3) := dk_180 0 43 (dk_at dksX10_copy_1 10 rfl rfl)
theorem dX10_copy_37 : decode cX10_copy 37 = .ok (.putfield 43, 3) := dk_181 0 43 (dk_at dksX10_copy_1 13 rfl rfl)
theorem dX10_copy_40 : decode cX10_copy 40 = .ok (.aload_n 0, 1) := dk_42 (dk_at dksX10_copy_1 16 rfl rfl)
theorem dX10_copy_41 : decode cX10_copy 41 = .ok (.getfield 10, 3) := dk_180 0 10 (dk_at dksX10_copy_1 17 rfl rfl)
theorem dX10_copy_44 : decode cX10_copy 44 = .ok (.invokevirtual 47, 3) := dk_182 0 47 (dk_at dksX10_copy_1 20 rfl rfl)
theorem dX10_copy_47 : decode cX10_copy 47 = .ok (.astore_n 2, 1) := dk_77 (dk_at dksX10_copy_1 23 rfl rfl)
theorem dX10_copy_48 : decode cX10_copy 48 = .ok (.aload_n 2, 1) := dk_44 (dk_at dksX10_copy_2 0 rfl rfl)
theorem dX10_copy_49 : decode cX10_copy 49 = .ok (.invokeinterface 51 1, 5) := by decide +kernel
theorem dX10_copy_54 : decode cX10_copy 54 = .ok (.ifCond .eq 26, 3) := dk_153 0 26 (dk_at dksX10_copy_2 6 rfl rfl)
theorem dX10_copy_57 : decode cX10_copy 57 = .ok (.aload_n 2, 1) := dk_44 (dk_at dksX10_copy_2 9 rfl rfl)
theorem dX10_copy_58 : decode cX10_copy 58 = .ok (.invokeinterface 57 1, 5) := by decide +kernel
theorem dX10_copy_63 : decode cX10_copy 63 = .ok (.checkcast 61, 3) := dk_192 0 61 (dk_at dksX10_copy_2 15 rfl rfl)
theorem dX10_copy_66 : decode cX10_copy 66 = .ok (.astore_n 3, 1) := dk_78 (dk_at dksX10_copy_2 18 rfl rfl)
theorem dX10_copy_67 : decode cX10_copy 67 = .ok (.aload_n 1, 1) := dk_43 (dk_at dksX10_copy_2 19 rfl rfl)
theorem dX10_copy_68 : decode cX10_copy 68 = .ok (.getfield 10, 3) := dk_180 0 10 (dk_at dksX10_copy_2 20 rfl rfl)
theorem dX10_copy_71 : decode cX10_copy 71 = .ok (.aload_n 3, 1) := dk_45 (dk_at dksX10_copy_2 23 rfl rfl)
theorem dX10_copy_72 : decode cX10_copy 72 = .ok (.invokevirtual 63, 3) := dk_182 0 63 (dk_at dksX10_copy_3 0 rfl rfl)
theorem dX10_copy_75 : decode cX10_copy 75 = .ok (.istore 4, 2) := dk_54 4 (dk_at dksX10_copy_3 3 rfl rfl)
theorem dX10_copy_77 : decode cX10_copy 77 = .ok (.goto (-29), 3) := dk_167 255 227 (dk_at dksX10_copy_3 5 rfl rfl)
theorem dX10_copy_80 : decode cX10_copy 80 = .ok (.aload_n 0, 1) := dk_42 (dk_at dksX10_copy_3 8 rfl rfl)
theorem dX10_copy_81 : decode cX10_copy 81 = .ok (.getfield 16, 3) := dk_180 0 16 (dk_at dksX10_copy_3 9 rfl rfl)
theorem dX10_copy_84 : decode cX10_copy 84 = .ok (.invokevirtual 47, 3) := dk_182 0 47 (dk_at dksX10_copy_3 12 rfl rfl)
theorem dX10_copy_87 : decode cX10_copy 87 = .ok (.astore_n 2, 1) := dk_77 (dk_at dksX10_copy_3 15 rfl rfl)
theorem dX10_copy_88 : decode cX10_copy 88 = .ok (.aload_n 2, 1) := dk_44 (dk_at dksX10_copy_3 16 rfl rfl)
theorem dX10_copy_89 : decode cX10_copy 89 = .ok (.invokeinterface 51 1, 5) := by decide +kernel
theorem dX10_copy_94 : decode cX10_copy 94 = .ok (.ifCond .eq 26, 3) := dk_153 0 26 (dk_at dksX10_copy_4 0 rfl rfl)
theorem dX10_copy_97 : decode cX10_copy 97 = .ok (.aload_n 2, 1) := dk_44 (dk_at dksX10_copy_4 3 rfl rfl)
theorem dX10_copy_98 : decode cX10_copy 98 = .ok (.invokeinterface 57 1, 5) := by decide +kernel
theorem dX10_copy_103 : decode cX10_copy 103 = .ok (.checkcast 61, 3) := dk_192 0 61 (dk_at dksX10_copy_4 9 rfl rfl)
theorem dX10_copy_106 : decode cX10_copy 106 = .ok (.astore_n 3, 1) := dk_78 (dk_at dksX10_copy_4 12 rfl rfl)
theorem dX10_copy_107 : decode cX10_copy 107 = .ok (.aload_n 1, 1) := dk_43 (dk_at dksX10_copy_4 13 rfl rfl)
theorem dX10_copy_108 : decode cX10_copy 108 = .ok (.getfield 16, 3) := dk_180 0 16 (dk_at dksX10_copy_4 14 rfl rfl)
theorem dX10_copy_111 : decode cX10_copy 111 = .ok (.aload_n 3, 1) := dk_45 (dk_at dksX10_copy_4 17 rfl rfl)
theorem dX10_copy_112 : decode cX10_copy 112 = .ok (.invokevirtual 63, 3) := dk_182 0 63 (dk_at dksX10_copy_4 18 rfl rfl)
theorem dX10_copy_115 : decode cX10_copy 115 = .ok (.istore 4, 2) := dk_54 4 (dk_at dksX10_copy_4 21 rfl rfl)
theorem dX10_copy_117 : decode cX10_copy 117 = .ok (.goto (-29), 3) := dk_167 255 227 (dk_at dksX10_copy_5 0 rfl rfl)
theorem dX10_copy_120 : decode cX10_copy 120 = .ok (.aload_n 1, 1) := dk_43 (dk_at dksX10_copy_5 3 rfl rfl)
theorem dX10_copy_121 : decode cX10_copy 121 = .ok (.areturn, 1) := dk_176 (dk_at dksX10_copy_5 4 rfl rfl)
abbrev cX10_init : ByteArray := prog_5_method_1_code
def yX10_init : MethodName := ⟨RX10, "<init>", "(ICIIFI)V"⟩
def dkwX10_init_2 : List UInt8 := [42, 23, 5, 181, 0, 33, 42, 21, 6, 181, 0, 37, 177]
abbrev dktX10_init_2 : List UInt8 := dkwX10_init_2 ++ []
def dkwX10_init_1 : List UInt8 := [181, 0, 16, 42, 27, 181, 0, 19, 42, 28, 181, 0, 23, 42, 29, 181, 0, 27, 42, 21, 4, 181, 0, 30]
abbrev dktX10_init_1 : List UInt8 := dkwX10_init_1 ++ dktX10_init_2
def dkwX10_init_0 : List UInt8 := [42, 183, 0, 1, 42, 187, 0, 7, 89, 183, 0, 9, 181, 0, 10, 42, 187, 0, 7, 89, 183, 0, 9]
abbrev dktX10_init_0 : List UInt8 := dkwX10_init_0 ++ dktX10_init_1
theorem dksX10_init_0 : cX10_init.data.toList.drop 0 = dktX10_init_0 := by decide +kernel
theorem dksX10_init_1 : cX10_init.data.toList.drop 23 = dktX10_init_1 := dk_seg dksX10_init_0 23 rfl rfl
theorem dksX10_init_2 : cX10_init.data.toList.drop 47 = dktX10_init_2 := dk_seg dksX10_init_1 24 rfl rfl
theorem dX10_init_0 : decode cX10_init 0 = .ok (.aload_n 0, 1) := dk_42 (dk_at dksX10_init_0 0 rfl rfl)
theorem dX10_init_1 : decode cX10_init 1 = .ok (.invokespecial 1, 3) := dk_183 0 1 (dk_at dksX10_init_0 1 rfl rfl)
theorem dX10_init_4 : decode cX10_init 4 = .ok (.aload_n 0, 1) := dk_42 (dk_at dksX10_init_0 4 rfl rfl)
theorem dX10_init_5 : decode cX10_init 5 = .ok (.new 7, 3) := dk_187 0 7 (dk_at dksX10_init_0 5 rfl rfl)
theorem dX10_init_8 : decode cX10_init 8 = .ok (.dup, 1) := dk_89 (dk_at dksX10_init_0 8 rfl rfl)
theorem dX10_init_9 : decode cX10_init 9 = .ok (.invokespecial 9, 3) := dk_183 0 9 (dk_at dksX10_init_0 9 rfl rfl)
theorem dX10_init_12 : decode cX10_init 12 = .ok (.putfield 10, 3) := dk_181 0 10 (dk_at dksX10_init_0 12 rfl rfl)
theorem dX10_init_15 : decode cX10_init 15 = .ok (.aload_n 0, 1) := dk_42 (dk_at dksX10_init_0 15 rfl rfl)
theorem dX10_init_16 : decode cX10_init 16 = .ok (.new 7, 3) := dk_187 0 7 (dk_at dksX10_init_0 16 rfl rfl)
theorem dX10_init_19 : decode cX10_init 19 = .ok (.dup, 1) := dk_89 (dk_at dksX10_init_0 19 rfl rfl)
theorem dX10_init_20 : decode cX10_init 20 = .ok (.invokespecial 9, 3) := dk_183 0 9 (dk_at dksX10_init_0 20 rfl rfl)
theorem dX10_init_23 : decode cX10_init 23 = .ok (.putfield 16, 3) := dk_181 0 16 (dk_at dksX10_init_1 0 rfl rfl)
theorem dX10_init_26 : decode cX10_init 26 = .ok (.aload_n 0, 1) := dk_42 (dk_at dksX10_init_1 3 rfl rfl)
theorem dX10_init_27 : decode cX10_init 27 = .ok (.iload_n 1, 1) := dk_27 (dk_at dksX10_init_1 4 rfl rfl)
theorem dX10_init_28 : decode cX10_init 28 = .ok (.putfield 19, 3) := dk_181 0 19 (dk_at dksX10_init_1 5 rfl rfl)
theorem dX10_init_31 : decode cX10_init 31 = .ok (.aload_n 0, 1) := dk_42 (dk_at dksX10_init_1 8 rfl rfl)
theorem dX10_init_32 : decode cX10_init 32 = .ok (.iload_n 2, 1) := dk_28 (dk_at dksX10_init_1 9 rfl rfl)
theorem dX10_init_33 : decode cX10_init 33 = .ok (.putfield 23, 3) := dk_181 0 23 (dk_at dksX10_init_1 10 rfl rfl)
theorem dX10_init_36 : decode cX10_init 36 = .ok (.aload_n 0, 1) := dk_42 (dk_at dksX10_init_1 13 rfl rfl)
theorem dX10_init_37 : decode cX10_init 37 = .ok (.iload_n 3, 1) := dk_29 (dk_at dksX10_init_1 14 rfl rfl)
theorem dX10_init_38 : decode cX10_init 38 = .ok (.putfield 27, 3) := dk_181 0 27 (dk_at dksX10_init_1 15 rfl rfl)
theorem dX10_init_41 : decode cX10_init 41 = .ok (.aload_n 0, 1) := dk_42 (dk_at dksX10_init_1 18 rfl rfl)
theorem dX10_init_42 : decode cX10_init 42 = .ok (.iload 4, 2) := dk_21 4 (dk_at dksX10_init_1 19 rfl rfl)
theorem dX10_init_44 : decode cX10_init 44 = .ok (.putfield 30, 3) := dk_181 0 30 (dk_at dksX10_init_1 21 rfl rfl)
theorem dX10_init_47 : decode cX10_init 47 = .ok (.aload_n 0, 1) := dk_42 (dk_at dksX10_init_2 0 rfl rfl)
theorem dX10_init_48 : decode cX10_init 48 = .ok (.fload 5, 2) := dk_23 5 (dk_at dksX10_init_2 1 rfl rfl)
theorem dX10_init_50 : decode cX10_init 50 = .ok (.putfield 33, 3) := dk_181 0 33 (dk_at dksX10_init_2 3 rfl rfl)
theorem dX10_init_53 : decode cX10_init 53 = .ok (.aload_n 0, 1) := dk_42 (dk_at dksX10_init_2 6 rfl rfl)
theorem dX10_init_54 : decode cX10_init 54 = .ok (.iload 6, 2) := dk_21 6 (dk_at dksX10_init_2 7 rfl rfl)
theorem dX10_init_56 : decode cX10_init 56 = .ok (.putfield 37, 3) := dk_181 0 37 (dk_at dksX10_init_2 9 rfl rfl)
theorem dX10_init_59 : decode cX10_init 59 = .ok (.return_, 1) := dk_177 (dk_at dksX10_init_2 12 rfl rfl)
theorem q126 : (Jvm.Cond.initialized "MatchmakerRules$Fact") ∈ lw_all := lw_g (lw_at lw_m1 30 rfl) rfl
theorem q585 : (Jvm.Cond.selects "MatchmakerRules$Fact" ({ cls := "java/lang/Object", name := "equals", desc := "(Ljava/lang/Object;)Z" } : Jvm.MethodName) ({ cls := "java/lang/Object", name := "equals", desc := "(Ljava/lang/Object;)Z" } : Jvm.MethodName)) ∈ lw_all := lw_g (lw_at lw_m3 9 rfl) rfl
theorem q619 : (Jvm.Cond.instanceMethod ({ cls := "MatchmakerRules$Fact", name := "is", desc := "(CII)Z" } : Jvm.MethodName)) ∈ lw_all := lw_g (lw_at lw_m3 43 rfl) rfl
theorem q620 : (Jvm.Cond.selects "MatchmakerRules$Fact" ({ cls := "MatchmakerRules$Fact", name := "is", desc := "(CII)Z" } : Jvm.MethodName) ({ cls := "MatchmakerRules$Fact", name := "is", desc := "(CII)Z" } : Jvm.MethodName)) ∈ lw_all := lw_g (lw_at lw_m3 44 rfl) rfl
theorem q621 : (Jvm.Cond.code ({ cls := "MatchmakerRules$Fact", name := "is", desc := "(CII)Z" } : Jvm.MethodName) prog_5_method_3_code (4 : Nat) (Option.some Jvm.ClassFile.FieldType.boolean)) ∈ lw_all := lw_g (lw_at lw_m3 45 rfl) rfl
theorem q943 : (Jvm.Cond.selects "MatchmakerRules$Fact" ({ cls := "java/lang/Object", name := "getClass", desc := "()Ljava/lang/Class;" } : Jvm.MethodName) ({ cls := "java/lang/Object", name := "getClass", desc := "()Ljava/lang/Class;" } : Jvm.MethodName)) ∈ lw_all := lw_g (lw_at lw_m4 127 rfl) rfl
theorem q976 : (Jvm.Cond.instanceMethod ({ cls := "MatchmakerRules$Fact", name := "copy", desc := "()LMatchmakerRules$Fact;" } : Jvm.MethodName)) ∈ lw_all := lw_g (lw_at lw_m4 160 rfl) rfl
theorem q977 : (Jvm.Cond.selects "MatchmakerRules$Fact" ({ cls := "MatchmakerRules$Fact", name := "copy", desc := "()LMatchmakerRules$Fact;" } : Jvm.MethodName) ({ cls := "MatchmakerRules$Fact", name := "copy", desc := "()LMatchmakerRules$Fact;" } : Jvm.MethodName)) ∈ lw_all := lw_g (lw_at lw_m4 161 rfl) rfl
theorem q978 : (Jvm.Cond.code ({ cls := "MatchmakerRules$Fact", name := "copy", desc := "()LMatchmakerRules$Fact;" } : Jvm.MethodName) prog_5_method_2_code (5 : Nat) (Option.some (Jvm.ClassFile.FieldType.object "MatchmakerRules$Fact"))) ∈ lw_all := lw_g (lw_at lw_m4 162 rfl) rfl
theorem q979 : (Jvm.Cond.classLink "MatchmakerRules$Fact" (11 : Nat) "MatchmakerRules$Fact") ∈ lw_all := lw_g (lw_at lw_m4 163 rfl) rfl
theorem q980 : (Jvm.Cond.instantiable "MatchmakerRules$Fact" (9 : Nat)) ∈ lw_all := lw_g (lw_at lw_m4 164 rfl) rfl
theorem q981 : (Jvm.Cond.methodLink "MatchmakerRules$Fact" (40 : Nat) ({ cls := "MatchmakerRules$Fact", name := "<init>", desc := "(ICIIFI)V" } : Jvm.MethodName)) ∈ lw_all := lw_g (lw_at lw_m4 165 rfl) rfl
theorem q982 : (Jvm.Cond.instanceMethod ({ cls := "MatchmakerRules$Fact", name := "<init>", desc := "(ICIIFI)V" } : Jvm.MethodName)) ∈ lw_all := lw_g (lw_at lw_m4 166 rfl) rfl
theorem q983 : (Jvm.Cond.code ({ cls := "MatchmakerRules$Fact", name := "<init>", desc := "(ICIIFI)V" } : Jvm.MethodName) prog_5_method_1_code (7 : Nat) (Option.none : Option Jvm.ClassFile.FieldType)) ∈ lw_all := lw_g (lw_at lw_m4 167 rfl) rfl
theorem q984 : (Jvm.Cond.methodLink "MatchmakerRules$Fact" (1 : Nat) ({ cls := "java/lang/Object", name := "<init>", desc := "()V" } : Jvm.MethodName)) ∈ lw_all := lw_g (lw_at lw_m4 168 rfl) rfl
theorem q985 : (Jvm.Cond.classLink "MatchmakerRules$Fact" (7 : Nat) "java/util/ArrayList") ∈ lw_all := lw_g (lw_at lw_m4 169 rfl) rfl
theorem q986 : (Jvm.Cond.methodLink "MatchmakerRules$Fact" (9 : Nat) ({ cls := "java/util/ArrayList", name := "<init>", desc := "()V" } : Jvm.MethodName)) ∈ lw_all := lw_g (lw_at lw_m4 170 rfl) rfl
theorem q987 : (Jvm.Cond.fieldLink "MatchmakerRules$Fact" (19 : Nat) "MatchmakerRules$Fact" "number" "I") ∈ lw_all := lw_g (lw_at lw_m4 171 rfl) rfl
theorem q991 : (Jvm.Cond.fieldLink "MatchmakerRules$Fact" (23 : Nat) "MatchmakerRules$Fact" "kind" "C") ∈ lw_all := lw_g (lw_at lw_m4 175 rfl) rfl
theorem q995 : (Jvm.Cond.fieldLink "MatchmakerRules$Fact" (27 : Nat) "MatchmakerRules$Fact" "first" "I") ∈ lw_all := lw_g (lw_at lw_m4 179 rfl) rfl
theorem q999 : (Jvm.Cond.fieldLink "MatchmakerRules$Fact" (30 : Nat) "MatchmakerRules$Fact" "second" "I") ∈ lw_all := lw_g (lw_at lw_m4 183 rfl) rfl
theorem q1003 : (Jvm.Cond.fieldLink "MatchmakerRules$Fact" (33 : Nat) "MatchmakerRules$Fact" "trust" "F") ∈ lw_all := lw_g (lw_at lw_m4 187 rfl) rfl
theorem q1006 : (Jvm.Cond.fieldLink "MatchmakerRules$Fact" (37 : Nat) "MatchmakerRules$Fact" "since" "I") ∈ lw_all := lw_g (lw_at lw_m4 190 rfl) rfl
theorem q1008 : (Jvm.Cond.fieldLink "MatchmakerRules$Fact" (43 : Nat) "MatchmakerRules$Fact" "isTold" "Z") ∈ lw_all := lw_g (lw_at lw_m4 192 rfl) rfl
theorem q1011 : (Jvm.Cond.fieldLink "MatchmakerRules$Fact" (10 : Nat) "MatchmakerRules$Fact" "reasons" "Ljava/util/ArrayList;") ∈ lw_all := lw_g (lw_at lw_m4 195 rfl) rfl
theorem q1014 : (Jvm.Cond.fieldLink "MatchmakerRules$Fact" (16 : Nat) "MatchmakerRules$Fact" "fired" "Ljava/util/ArrayList;") ∈ lw_all := lw_g (lw_at lw_m4 198 rfl) rfl
theorem q1017 : (Jvm.Cond.laysFinal "MatchmakerRules$Fact" "MatchmakerRules$Fact" "number" "I") ∈ lw_all := lw_g (lw_at lw_m4 201 rfl) rfl
theorem q1018 : (Jvm.Cond.soleField "MatchmakerRules$Fact" "number") ∈ lw_all := lw_g (lw_at lw_m4 202 rfl) rfl
theorem q1019 : (Jvm.Cond.laysFinal "MatchmakerRules$Fact" "MatchmakerRules$Fact" "kind" "C") ∈ lw_all := lw_g (lw_at lw_m4 203 rfl) rfl
theorem q1020 : (Jvm.Cond.soleField "MatchmakerRules$Fact" "kind") ∈ lw_all := lw_g (lw_at lw_m4 204 rfl) rfl
theorem q1021 : (Jvm.Cond.laysFinal "MatchmakerRules$Fact" "MatchmakerRules$Fact" "first" "I") ∈ lw_all := lw_g (lw_at lw_m4 205 rfl) rfl
theorem q1022 : (Jvm.Cond.soleField "MatchmakerRules$Fact" "first") ∈ lw_all := lw_g (lw_at lw_m4 206 rfl) rfl
theorem q1023 : (Jvm.Cond.laysFinal "MatchmakerRules$Fact" "MatchmakerRules$Fact" "second" "I") ∈ lw_all := lw_g (lw_at lw_m4 207 rfl) rfl
theorem q1024 : (Jvm.Cond.soleField "MatchmakerRules$Fact" "second") ∈ lw_all := lw_g (lw_at lw_m4 208 rfl) rfl
theorem q1025 : (Jvm.Cond.laysFinal "MatchmakerRules$Fact" "MatchmakerRules$Fact" "trust" "F") ∈ lw_all := lw_g (lw_at lw_m4 209 rfl) rfl
theorem q1026 : (Jvm.Cond.soleField "MatchmakerRules$Fact" "trust") ∈ lw_all := lw_g (lw_at lw_m4 210 rfl) rfl
theorem q1027 : (Jvm.Cond.laysFinal "MatchmakerRules$Fact" "MatchmakerRules$Fact" "since" "I") ∈ lw_all := lw_g (lw_at lw_m4 211 rfl) rfl
theorem q1028 : (Jvm.Cond.soleField "MatchmakerRules$Fact" "since") ∈ lw_all := lw_g (lw_at lw_m4 212 rfl) rfl
theorem q1029 : (Jvm.Cond.lays "MatchmakerRules$Fact" "MatchmakerRules$Fact" "isTold" "Z") ∈ lw_all := lw_g (lw_at lw_m4 213 rfl) rfl
theorem q1030 : (Jvm.Cond.soleField "MatchmakerRules$Fact" "isTold") ∈ lw_all := lw_g (lw_at lw_m4 214 rfl) rfl
theorem q1031 : (Jvm.Cond.laysFinal "MatchmakerRules$Fact" "MatchmakerRules$Fact" "reasons" "Ljava/util/ArrayList;") ∈ lw_all := lw_g (lw_at lw_m4 215 rfl) rfl
theorem q1032 : (Jvm.Cond.soleField "MatchmakerRules$Fact" "reasons") ∈ lw_all := lw_g (lw_at lw_m4 216 rfl) rfl
theorem q1033 : (Jvm.Cond.laysFinal "MatchmakerRules$Fact" "MatchmakerRules$Fact" "fired" "Ljava/util/ArrayList;") ∈ lw_all := lw_g (lw_at lw_m4 217 rfl) rfl
theorem q1034 : (Jvm.Cond.soleField "MatchmakerRules$Fact" "fired") ∈ lw_all := lw_g (lw_at lw_m4 218 rfl) rfl
theorem q1035 : (Jvm.Cond.superclass "MatchmakerRules$Fact" "java/lang/Object") ∈ lw_all := lw_g (lw_at lw_m4 219 rfl) rfl
theorem q1036 : (Jvm.Cond.methodLink "MatchmakerRules$Fact" (47 : Nat) ({ cls := "java/util/ArrayList", name := "iterator", desc := "()Ljava/util/Iterator;" } : Jvm.MethodName)) ∈ lw_all := lw_g (lw_at lw_m4 220 rfl) rfl
theorem q1037 : (Jvm.Cond.interfaceEntry "MatchmakerRules$Fact" (51 : Nat)) ∈ lw_tbl := lw_at lw_m4 221 rfl
theorem q1038 : (Jvm.Cond.methodLink "MatchmakerRules$Fact" (51 : Nat) ({ cls := "java/util/Iterator", name := "hasNext", desc := "()Z" } : Jvm.MethodName)) ∈ lw_all := lw_g (lw_at lw_m4 222 rfl) rfl
theorem q1039 : (Jvm.Cond.interfaceEntry "MatchmakerRules$Fact" (57 : Nat)) ∈ lw_tbl := lw_at lw_m4 223 rfl
theorem q1040 : (Jvm.Cond.methodLink "MatchmakerRules$Fact" (57 : Nat) ({ cls := "java/util/Iterator", name := "next", desc := "()Ljava/lang/Object;" } : Jvm.MethodName)) ∈ lw_all := lw_g (lw_at lw_m4 224 rfl) rfl
theorem q1041 : (Jvm.Cond.classLink "MatchmakerRules$Fact" (61 : Nat) "MatchmakerRules$Firing") ∈ lw_all := lw_g (lw_at lw_m4 225 rfl) rfl
theorem q1042 : (Jvm.Cond.methodLink "MatchmakerRules$Fact" (63 : Nat) ({ cls := "java/util/ArrayList", name := "add", desc := "(Ljava/lang/Object;)Z" } : Jvm.MethodName)) ∈ lw_all := lw_g (lw_at lw_m4 226 rfl) rfl
theorem q2542 : (Jvm.Cond.castable "MatchmakerRules$Fact" "java/lang/Object") ∈ lw_tbl := lw_at lw_m11 46 rfl
theorem in_X10 : ∀ w ∈ wsX100, w ∈ lw_all := lw_in wsX100 [1017, 1019, 1021, 1023, 1025, 1027, 1029, 1031, 1033] (by decide +kernel) (by decide +kernel)
/-! MatchmakerRules$Refused -/
set_option maxRecDepth 100000
def RX11 : String := "MatchmakerRules$Refused"
def TX11 : u_T := fun k => match k with
  | 0 => ("java/lang/Throwable", "cause", "Ljava/lang/Throwable;", false)
  | 1 => ("java/lang/Throwable", "stackTrace", "[Ljava/lang/StackTraceElement;", false)
  | 2 => ("java/lang/Throwable", "suppressedExceptions", "Ljava/util/List;", false)
  | 3 => ("java/lang/Throwable", "detailMessage", "Ljava/lang/String;", false)
  | 4 => ("java/lang/Throwable", "backtrace", "Ljava/lang/Object;", false)
  | 5 => ("java/lang/Throwable", "depth", "I", false)
  | 6 => ("MatchmakerRules$Refused", "reason", "I", true)
  | _ => ("MatchmakerRules$Refused", "detail", "I", true)
def tyX11 : Nat → FieldType := fun k => match k with
  | 0 => .object "java/lang/Throwable"
  | 1 => .array (.object "java/lang/StackTraceElement")
  | 2 => .object "java/util/List"
  | 3 => .object "java/lang/String"
  | 4 => .object "java/lang/Object"
  | 5 => .int
  | 6 => .int
  | _ => .int
abbrev wsX110 : List Cond := u_ws RX11 TX11 8
theorem nmX11 : ∀ a, a < 8 → ∀ b, b < 8 → a ≠ b → (TX11 a).2.1 ≠ (TX11 b).2.1 := by decide +kernel
theorem tyX11_ok : ∀ k, k < 8 → parseFieldDescriptor (TX11 k).2.2.1 = some (tyX11 k) := by decide +kernel
abbrev cX11_check : ByteArray := prog_9_method_2_code
def yX11_check : MethodName := ⟨RX11, "check", "(ZII)V"⟩
def dkwX11_check_0 : List UInt8 := [26, 154, 0, 13, 187, 0, 8, 89, 27, 28, 183, 0, 16, 191, 177]
abbrev dktX11_check_0 : List UInt8 := dkwX11_check_0 ++ []
theorem dksX11_check_0 : cX11_check.data.toList.drop 0 = dktX11_check_0 := by decide +kernel
theorem dX11_check_0 : decode cX11_check 0 = .ok (.iload_n 0, 1) := dk_26 (dk_at dksX11_check_0 0 rfl rfl)
theorem dX11_check_1 : decode cX11_check 1 = .ok (.ifCond .ne 13, 3) := dk_154 0 13 (dk_at dksX11_check_0 1 rfl rfl)
theorem dX11_check_4 : decode cX11_check 4 = .ok (.new 8, 3) := dk_187 0 8 (dk_at dksX11_check_0 4 rfl rfl)
theorem dX11_check_7 : decode cX11_check 7 = .ok (.dup, 1) := dk_89 (dk_at dksX11_check_0 7 rfl rfl)
theorem dX11_check_8 : decode cX11_check 8 = .ok (.iload_n 1, 1) := dk_27 (dk_at dksX11_check_0 8 rfl rfl)
theorem dX11_check_9 : decode cX11_check 9 = .ok (.iload_n 2, 1) := dk_28 (dk_at dksX11_check_0 9 rfl rfl)
theorem dX11_check_10 : decode cX11_check 10 = .ok (.invokespecial 16, 3) := dk_183 0 16 (dk_at dksX11_check_0 10 rfl rfl)
theorem dX11_check_13 : decode cX11_check 13 = .ok (.athrow, 1) := dk_191 (dk_at dksX11_check_0 13 rfl rfl)
theorem dX11_check_14 : decode cX11_check 14 = .ok (.return_, 1) := dk_177 (dk_at dksX11_check_0 14 rfl rfl)
abbrev cX11_init : ByteArray := prog_9_method_1_code
def yX11_init : MethodName := ⟨RX11, "<init>", "(II)V"⟩
def dkwX11_init_0 : List UInt8 := [42, 1, 1, 3, 3, 183, 0, 1, 42, 27, 181, 0, 7, 42, 28, 181, 0, 13, 177]
abbrev dktX11_init_0 : List UInt8 := dkwX11_init_0 ++ []
theorem dksX11_init_0 : cX11_init.data.toList.drop 0 = dktX11_init_0 := by decide +kernel
theorem dX11_init_0 : decode cX11_init 0 = .ok (.aload_n 0, 1) := dk_42 (dk_at dksX11_init_0 0 rfl rfl)
theorem dX11_init_1 : decode cX11_init 1 = .ok (.aconst_null, 1) := dk_1 (dk_at dksX11_init_0 1 rfl rfl)
theorem dX11_init_2 : decode cX11_init 2 = .ok (.aconst_null, 1) := dk_1 (dk_at dksX11_init_0 2 rfl rfl)
theorem dX11_init_3 : decode cX11_init 3 = .ok (.iconst 0, 1) := dk_3 (dk_at dksX11_init_0 3 rfl rfl)
theorem dX11_init_4 : decode cX11_init 4 = .ok (.iconst 0, 1) := dk_3 (dk_at dksX11_init_0 4 rfl rfl)
theorem dX11_init_5 : decode cX11_init 5 = .ok (.invokespecial 1, 3) := dk_183 0 1 (dk_at dksX11_init_0 5 rfl rfl)
theorem dX11_init_8 : decode cX11_init 8 = .ok (.aload_n 0, 1) := dk_42 (dk_at dksX11_init_0 8 rfl rfl)
theorem dX11_init_9 : decode cX11_init 9 = .ok (.iload_n 1, 1) := dk_27 (dk_at dksX11_init_0 9 rfl rfl)
theorem dX11_init_10 : decode cX11_init 10 = .ok (.putfield 7, 3) := dk_181 0 7 (dk_at dksX11_init_0 10 rfl rfl)
theorem dX11_init_13 : decode cX11_init 13 = .ok (.aload_n 0, 1) := dk_42 (dk_at dksX11_init_0 13 rfl rfl)
theorem dX11_init_14 : decode cX11_init 14 = .ok (.iload_n 2, 1) := dk_28 (dk_at dksX11_init_0 14 rfl rfl)
theorem dX11_init_15 : decode cX11_init 15 = .ok (.putfield 13, 3) := dk_181 0 13 (dk_at dksX11_init_0 15 rfl rfl)
theorem dX11_init_18 : decode cX11_init 18 = .ok (.return_, 1) := dk_177 (dk_at dksX11_init_0 18 rfl rfl)
theorem q127 : (Jvm.Cond.initialized "MatchmakerRules$Refused") ∈ lw_all := lw_g (lw_at lw_m1 31 rfl) rfl
theorem q430 : (Jvm.Cond.selects "MatchmakerRules$Refused" ({ cls := "java/lang/Throwable", name := "fillInStackTrace", desc := "()Ljava/lang/Throwable;" } : Jvm.MethodName) ({ cls := "java/lang/Throwable", name := "fillInStackTrace", desc := "()Ljava/lang/Throwable;" } : Jvm.MethodName)) ∈ lw_all := lw_g (lw_at lw_m2 94 rfl) rfl
theorem q589 : (Jvm.Cond.selects "MatchmakerRules$Refused" ({ cls := "java/lang/Object", name := "equals", desc := "(Ljava/lang/Object;)Z" } : Jvm.MethodName) ({ cls := "java/lang/Object", name := "equals", desc := "(Ljava/lang/Object;)Z" } : Jvm.MethodName)) ∈ lw_all := lw_g (lw_at lw_m3 13 rfl) rfl
theorem q947 : (Jvm.Cond.selects "MatchmakerRules$Refused" ({ cls := "java/lang/Object", name := "getClass", desc := "()Ljava/lang/Class;" } : Jvm.MethodName) ({ cls := "java/lang/Object", name := "getClass", desc := "()Ljava/lang/Class;" } : Jvm.MethodName)) ∈ lw_all := lw_g (lw_at lw_m4 131 rfl) rfl
theorem q1052 : (Jvm.Cond.static ({ cls := "MatchmakerRules$Refused", name := "check", desc := "(ZII)V" } : Jvm.MethodName)) ∈ lw_all := lw_g (lw_at lw_m4 236 rfl) rfl
theorem q1053 : (Jvm.Cond.code ({ cls := "MatchmakerRules$Refused", name := "check", desc := "(ZII)V" } : Jvm.MethodName) prog_9_method_2_code (3 : Nat) (Option.none : Option Jvm.ClassFile.FieldType)) ∈ lw_all := lw_g (lw_at lw_m4 237 rfl) rfl
theorem q1054 : (Jvm.Cond.classLink "MatchmakerRules$Refused" (8 : Nat) "MatchmakerRules$Refused") ∈ lw_all := lw_g (lw_at lw_m4 238 rfl) rfl
theorem q1055 : (Jvm.Cond.instantiable "MatchmakerRules$Refused" (8 : Nat)) ∈ lw_all := lw_g (lw_at lw_m4 239 rfl) rfl
theorem q1056 : (Jvm.Cond.castable "MatchmakerRules$Refused" "MatchmakerRules$Refused") ∈ lw_tbl := lw_at lw_m5 0 rfl
theorem q1057 : (Jvm.Cond.selects "MatchmakerRules$Refused" ({ cls := "java/lang/Throwable", name := "fillInStackTrace", desc := "(I)Ljava/lang/Throwable;" } : Jvm.MethodName) ({ cls := "java/lang/Throwable", name := "fillInStackTrace", desc := "(I)Ljava/lang/Throwable;" } : Jvm.MethodName)) ∈ lw_all := lw_g (lw_at lw_m5 1 rfl) rfl
theorem q1058 : (Jvm.Cond.lays "MatchmakerRules$Refused" "java/lang/Throwable" "cause" "Ljava/lang/Throwable;") ∈ lw_all := lw_g (lw_at lw_m5 2 rfl) rfl
theorem q1059 : (Jvm.Cond.lays "MatchmakerRules$Refused" "java/lang/Throwable" "stackTrace" "[Ljava/lang/StackTraceElement;") ∈ lw_all := lw_g (lw_at lw_m5 3 rfl) rfl
theorem q1060 : (Jvm.Cond.lays "MatchmakerRules$Refused" "java/lang/Throwable" "suppressedExceptions" "Ljava/util/List;") ∈ lw_all := lw_g (lw_at lw_m5 4 rfl) rfl
theorem q1061 : (Jvm.Cond.lays "MatchmakerRules$Refused" "java/lang/Throwable" "detailMessage" "Ljava/lang/String;") ∈ lw_all := lw_g (lw_at lw_m5 5 rfl) rfl
theorem q1062 : (Jvm.Cond.lays "MatchmakerRules$Refused" "java/lang/Throwable" "backtrace" "Ljava/lang/Object;") ∈ lw_all := lw_g (lw_at lw_m5 6 rfl) rfl
theorem q1063 : (Jvm.Cond.methodLink "MatchmakerRules$Refused" (16 : Nat) ({ cls := "MatchmakerRules$Refused", name := "<init>", desc := "(II)V" } : Jvm.MethodName)) ∈ lw_all := lw_g (lw_at lw_m5 7 rfl) rfl
theorem q1064 : (Jvm.Cond.instanceMethod ({ cls := "MatchmakerRules$Refused", name := "<init>", desc := "(II)V" } : Jvm.MethodName)) ∈ lw_all := lw_g (lw_at lw_m5 8 rfl) rfl
theorem q1065 : (Jvm.Cond.code ({ cls := "MatchmakerRules$Refused", name := "<init>", desc := "(II)V" } : Jvm.MethodName) prog_9_method_1_code (3 : Nat) (Option.none : Option Jvm.ClassFile.FieldType)) ∈ lw_all := lw_g (lw_at lw_m5 9 rfl) rfl
theorem q1066 : (Jvm.Cond.methodLink "MatchmakerRules$Refused" (1 : Nat) ({ cls := "java/lang/Exception", name := "<init>", desc := "(Ljava/lang/String;Ljava/lang/Throwable;ZZ)V" } : Jvm.MethodName)) ∈ lw_all := lw_g (lw_at lw_m5 10 rfl) rfl
theorem q1067 : (Jvm.Cond.fieldLink "MatchmakerRules$Refused" (7 : Nat) "MatchmakerRules$Refused" "reason" "I") ∈ lw_all := lw_g (lw_at lw_m5 11 rfl) rfl
theorem q1069 : (Jvm.Cond.fieldLink "MatchmakerRules$Refused" (13 : Nat) "MatchmakerRules$Refused" "detail" "I") ∈ lw_all := lw_g (lw_at lw_m5 13 rfl) rfl
theorem q1071 : (Jvm.Cond.laysFinal "MatchmakerRules$Refused" "MatchmakerRules$Refused" "reason" "I") ∈ lw_all := lw_g (lw_at lw_m5 15 rfl) rfl
theorem q1072 : (Jvm.Cond.soleField "MatchmakerRules$Refused" "reason") ∈ lw_all := lw_g (lw_at lw_m5 16 rfl) rfl
theorem q1073 : (Jvm.Cond.laysFinal "MatchmakerRules$Refused" "MatchmakerRules$Refused" "detail" "I") ∈ lw_all := lw_g (lw_at lw_m5 17 rfl) rfl
theorem q1074 : (Jvm.Cond.soleField "MatchmakerRules$Refused" "detail") ∈ lw_all := lw_g (lw_at lw_m5 18 rfl) rfl
theorem q1075 : (Jvm.Cond.lays "MatchmakerRules$Refused" "java/lang/Throwable" "depth" "I") ∈ lw_all := lw_g (lw_at lw_m5 19 rfl) rfl
theorem q1076 : (Jvm.Cond.superclass "MatchmakerRules$Refused" "java/lang/Exception") ∈ lw_all := lw_g (lw_at lw_m5 20 rfl) rfl
theorem q2543 : (Jvm.Cond.castable "MatchmakerRules$Refused" "java/lang/Object") ∈ lw_tbl := lw_at lw_m11 47 rfl
theorem in_X11 : ∀ w ∈ wsX110, w ∈ lw_all := lw_in wsX110 [1058, 1059, 1060, 1061, 1062, 1075, 1071, 1073] (by decide +kernel) (by decide +kernel)
/-! MatchmakerRules$Firing -/
set_option maxRecDepth 100000
def RX12 : String := "MatchmakerRules$Firing"
def TX12 : u_T := fun k => match k with
  | 0 => ("MatchmakerRules$Firing", "rule", "LMatchmakerRules$Rule;", false)
  | 1 => ("MatchmakerRules$Firing", "first", "I", false)
  | _ => ("MatchmakerRules$Firing", "second", "I", false)
def tyX12 : Nat → FieldType := fun k => match k with
  | 0 => .object "MatchmakerRules$Rule"
  | 1 => .int
  | _ => .int
abbrev wsX120 : List Cond := u_ws RX12 TX12 3
theorem nmX12 : ∀ a, a < 3 → ∀ b, b < 3 → a ≠ b → (TX12 a).2.1 ≠ (TX12 b).2.1 := by decide +kernel
theorem tyX12_ok : ∀ k, k < 3 → parseFieldDescriptor (TX12 k).2.2.1 = some (tyX12 k) := by decide +kernel
abbrev cX12_isLike : ByteArray := prog_6_method_4_code
def yX12_isLike : MethodName := ⟨RX12, "isLike", "(LMatchmakerRules$Firing;)Z"⟩
def dkwX12_isLike_1 : List UInt8 := [180, 0, 15, 43, 180, 0, 15, 160, 0, 7, 4, 167, 0, 4, 3, 172]
abbrev dktX12_isLike_1 : List UInt8 := dkwX12_isLike_1 ++ []
def dkwX12_isLike_0 : List UInt8 := [42, 180, 0, 18, 43, 180, 0, 18, 166, 0, 29, 42, 180, 0, 9, 43, 180, 0, 9, 160, 0, 18, 42]
abbrev dktX12_isLike_0 : List UInt8 := dkwX12_isLike_0 ++ dktX12_isLike_1
theorem dksX12_isLike_0 : cX12_isLike.data.toList.drop 0 = dktX12_isLike_0 := by decide +kernel
theorem dksX12_isLike_1 : cX12_isLike.data.toList.drop 23 = dktX12_isLike_1 := dk_seg dksX12_isLike_0 23 rfl rfl
theorem dX12_isLike_0 : decode cX12_isLike 0 = .ok (.aload_n 0, 1) := dk_42 (dk_at dksX12_isLike_0 0 rfl rfl)
theorem dX12_isLike_1 : decode cX12_isLike 1 = .ok (.getfield 18, 3) := dk_180 0 18 (dk_at dksX12_isLike_0 1 rfl rfl)
theorem dX12_isLike_4 : decode cX12_isLike 4 = .ok (.aload_n 1, 1) := dk_43 (dk_at dksX12_isLike_0 4 rfl rfl)
theorem dX12_isLike_5 : decode cX12_isLike 5 = .ok (.getfield 18, 3) := dk_180 0 18 (dk_at dksX12_isLike_0 5 rfl rfl)
theorem dX12_isLike_8 : decode cX12_isLike 8 = .ok (.if_acmp .ne 29, 3) := dk_166 0 29 (dk_at dksX12_isLike_0 8 rfl rfl)
theorem dX12_isLike_11 : decode cX12_isLike 11 = .ok (.aload_n 0, 1) := dk_42 (dk_at dksX12_isLike_0 11 rfl rfl)
theorem dX12_isLike_12 : decode cX12_isLike 12 = .ok (.getfield 9, 3) := dk_180 0 9 (dk_at dksX12_isLike_0 12 rfl rfl)
theorem dX12_isLike_15 : decode cX12_isLike 15 = .ok (.aload_n 1, 1) := dk_43 (dk_at dksX12_isLike_0 15 rfl rfl)
theorem dX12_isLike_16 : decode cX12_isLike 16 = .ok (.getfield 9, 3) := dk_180 0 9 (dk_at dksX12_isLike_0 16 rfl rfl)
theorem dX12_isLike_19 : decode cX12_isLike 19 = .ok (.if_icmp .ne 18, 3) := dk_160 0 18 (dk_at dksX12_isLike_0 19 rfl rfl)
theorem dX12_isLike_22 : decode cX12_isLike 22 = .ok (.aload_n 0, 1) := dk_42 (dk_at dksX12_isLike_0 22 rfl rfl)
theorem dX12_isLike_23 : decode cX12_isLike 23 = .ok (.getfield 15, 3) := dk_180 0 15 (dk_at dksX12_isLike_1 0 rfl rfl)
theorem dX12_isLike_26 : decode cX12_isLike 26 = .ok (.aload_n 1, 1) := dk_43 (dk_at dksX12_isLike_1 3 rfl rfl)
theorem dX12_isLike_27 : decode cX12_isLike 27 = .ok (.getfield 15, 3) := dk_180 0 15 (dk_at dksX12_isLike_1 4 rfl rfl)
theorem dX12_isLike_30 : decode cX12_isLike 30 = .ok (.if_icmp .ne 7, 3) := dk_160 0 7 (dk_at dksX12_isLike_1 7 rfl rfl)
theorem dX12_isLike_33 : decode cX12_isLike 33 = .ok (.iconst 1, 1) := dk_4 (dk_at dksX12_isLike_1 10 rfl rfl)
theorem dX12_isLike_34 : decode cX12_isLike 34 = .ok (.goto 4, 3) := dk_167 0 4 (dk_at dksX12_isLike_1 11 rfl rfl)
theorem dX12_isLike_37 : decode cX12_isLike 37 = .ok (.iconst 0, 1) := dk_3 (dk_at dksX12_isLike_1 14 rfl rfl)
theorem dX12_isLike_38 : decode cX12_isLike 38 = .ok (.ireturn, 1) := dk_172 (dk_at dksX12_isLike_1 15 rfl rfl)
abbrev cX12_has : ByteArray := prog_6_method_3_code
def yX12_has : MethodName := ⟨RX12, "has", "(I)Z"⟩
def dkwX12_has_0 : List UInt8 := [42, 180, 0, 9, 27, 159, 0, 11, 42, 180, 0, 15, 27, 160, 0, 7, 4, 167, 0, 4, 3, 172]
abbrev dktX12_has_0 : List UInt8 := dkwX12_has_0 ++ []
theorem dksX12_has_0 : cX12_has.data.toList.drop 0 = dktX12_has_0 := by decide +kernel
theorem dX12_has_0 : decode cX12_has 0 = .ok (.aload_n 0, 1) := dk_42 (dk_at dksX12_has_0 0 rfl rfl)
theorem dX12_has_1 : decode cX12_has 1 = .ok (.getfield 9, 3) := dk_180 0 9 (dk_at dksX12_has_0 1 rfl rfl)
theorem dX12_has_4 : decode cX12_has 4 = .ok (.iload_n 1, 1) := dk_27 (dk_at dksX12_has_0 4 rfl rfl)
theorem dX12_has_5 : decode cX12_has 5 = .ok (.if_icmp .eq 11, 3) := dk_159 0 11 (dk_at dksX12_has_0 5 rfl rfl)
theorem dX12_has_8 : decode cX12_has 8 = .ok (.aload_n 0, 1) := dk_42 (dk_at dksX12_has_0 8 rfl rfl)
theorem dX12_has_9 : decode cX12_has 9 = .ok (.getfield 15, 3) := dk_180 0 15 (dk_at dksX12_has_0 9 rfl rfl)
theorem dX12_has_12 : decode cX12_has 12 = .ok (.iload_n 1, 1) := dk_27 (dk_at dksX12_has_0 12 rfl rfl)
theorem dX12_has_13 : decode cX12_has 13 = .ok (.if_icmp .ne 7, 3) := dk_160 0 7 (dk_at dksX12_has_0 13 rfl rfl)
theorem dX12_has_16 : decode cX12_has 16 = .ok (.iconst 1, 1) := dk_4 (dk_at dksX12_has_0 16 rfl rfl)
theorem dX12_has_17 : decode cX12_has 17 = .ok (.goto 4, 3) := dk_167 0 4 (dk_at dksX12_has_0 17 rfl rfl)
theorem dX12_has_20 : decode cX12_has 20 = .ok (.iconst 0, 1) := dk_3 (dk_at dksX12_has_0 20 rfl rfl)
theorem dX12_has_21 : decode cX12_has 21 = .ok (.ireturn, 1) := dk_172 (dk_at dksX12_has_0 21 rfl rfl)
abbrev cX12_init : ByteArray := prog_6_method_1_code
def yX12_init : MethodName := ⟨RX12, "<init>", "()V"⟩
def dkwX12_init_0 : List UInt8 := [42, 183, 0, 3, 42, 2, 181, 0, 9, 42, 2, 181, 0, 15, 177]
abbrev dktX12_init_0 : List UInt8 := dkwX12_init_0 ++ []
theorem dksX12_init_0 : cX12_init.data.toList.drop 0 = dktX12_init_0 := by decide +kernel
theorem dX12_init_0 : decode cX12_init 0 = .ok (.aload_n 0, 1) := dk_42 (dk_at dksX12_init_0 0 rfl rfl)
theorem dX12_init_1 : decode cX12_init 1 = .ok (.invokespecial 3, 3) := dk_183 0 3 (dk_at dksX12_init_0 1 rfl rfl)
theorem dX12_init_4 : decode cX12_init 4 = .ok (.aload_n 0, 1) := dk_42 (dk_at dksX12_init_0 4 rfl rfl)
theorem dX12_init_5 : decode cX12_init 5 = .ok (.iconst (-1), 1) := dk_2 (dk_at dksX12_init_0 5 rfl rfl)
theorem dX12_init_6 : decode cX12_init 6 = .ok (.putfield 9, 3) := dk_181 0 9 (dk_at dksX12_init_0 6 rfl rfl)
theorem dX12_init_9 : decode cX12_init 9 = .ok (.aload_n 0, 1) := dk_42 (dk_at dksX12_init_0 9 rfl rfl)
theorem dX12_init_10 : decode cX12_init 10 = .ok (.iconst (-1), 1) := dk_2 (dk_at dksX12_init_0 10 rfl rfl)
theorem dX12_init_11 : decode cX12_init 11 = .ok (.putfield 15, 3) := dk_181 0 15 (dk_at dksX12_init_0 11 rfl rfl)
theorem dX12_init_14 : decode cX12_init 14 = .ok (.return_, 1) := dk_177 (dk_at dksX12_init_0 14 rfl rfl)
abbrev cX12_newest : ByteArray := prog_6_method_5_code
def yX12_newest : MethodName := ⟨RX12, "newest", "()I"⟩
def dkwX12_newest_0 : List UInt8 := [42, 180, 0, 9, 42, 180, 0, 15, 184, 0, 22, 172]
abbrev dktX12_newest_0 : List UInt8 := dkwX12_newest_0 ++ []
theorem dksX12_newest_0 : cX12_newest.data.toList.drop 0 = dktX12_newest_0 := by decide +kernel
theorem dX12_newest_0 : decode cX12_newest 0 = .ok (.aload_n 0, 1) := dk_42 (dk_at dksX12_newest_0 0 rfl rfl)
theorem dX12_newest_1 : decode cX12_newest 1 = .ok (.getfield 9, 3) := dk_180 0 9 (dk_at dksX12_newest_0 1 rfl rfl)
theorem dX12_newest_4 : decode cX12_newest 4 = .ok (.aload_n 0, 1) := dk_42 (dk_at dksX12_newest_0 4 rfl rfl)
theorem dX12_newest_5 : decode cX12_newest 5 = .ok (.getfield 15, 3) := dk_180 0 15 (dk_at dksX12_newest_0 5 rfl rfl)
theorem dX12_newest_8 : decode cX12_newest 8 = .ok (.invokestatic 22, 3) := dk_184 0 22 (dk_at dksX12_newest_0 8 rfl rfl)
theorem dX12_newest_11 : decode cX12_newest 11 = .ok (.ireturn, 1) := dk_172 (dk_at dksX12_newest_0 11 rfl rfl)
abbrev cX12_become : ByteArray := prog_6_method_2_code
def yX12_become : MethodName := ⟨RX12, "become", "(LMatchmakerRules$Rule;II)V"⟩
def dkwX12_become_0 : List UInt8 := [42, 43, 181, 0, 18, 42, 28, 181, 0, 9, 42, 29, 181, 0, 15, 177]
abbrev dktX12_become_0 : List UInt8 := dkwX12_become_0 ++ []
theorem dksX12_become_0 : cX12_become.data.toList.drop 0 = dktX12_become_0 := by decide +kernel
theorem dX12_become_0 : decode cX12_become 0 = .ok (.aload_n 0, 1) := dk_42 (dk_at dksX12_become_0 0 rfl rfl)
theorem dX12_become_1 : decode cX12_become 1 = .ok (.aload_n 1, 1) := dk_43 (dk_at dksX12_become_0 1 rfl rfl)
theorem dX12_become_2 : decode cX12_become 2 = .ok (.putfield 18, 3) := dk_181 0 18 (dk_at dksX12_become_0 2 rfl rfl)
theorem dX12_become_5 : decode cX12_become 5 = .ok (.aload_n 0, 1) := dk_42 (dk_at dksX12_become_0 5 rfl rfl)
theorem dX12_become_6 : decode cX12_become 6 = .ok (.iload_n 2, 1) := dk_28 (dk_at dksX12_become_0 6 rfl rfl)
theorem dX12_become_7 : decode cX12_become 7 = .ok (.putfield 9, 3) := dk_181 0 9 (dk_at dksX12_become_0 7 rfl rfl)
theorem dX12_become_10 : decode cX12_become 10 = .ok (.aload_n 0, 1) := dk_42 (dk_at dksX12_become_0 10 rfl rfl)
theorem dX12_become_11 : decode cX12_become 11 = .ok (.iload_n 3, 1) := dk_29 (dk_at dksX12_become_0 11 rfl rfl)
theorem dX12_become_12 : decode cX12_become 12 = .ok (.putfield 15, 3) := dk_181 0 15 (dk_at dksX12_become_0 12 rfl rfl)
theorem dX12_become_15 : decode cX12_become 15 = .ok (.return_, 1) := dk_177 (dk_at dksX12_become_0 15 rfl rfl)
theorem q132 : (Jvm.Cond.initialized "MatchmakerRules$Firing") ∈ lw_all := lw_g (lw_at lw_m1 36 rfl) rfl
theorem q586 : (Jvm.Cond.selects "MatchmakerRules$Firing" ({ cls := "java/lang/Object", name := "equals", desc := "(Ljava/lang/Object;)Z" } : Jvm.MethodName) ({ cls := "java/lang/Object", name := "equals", desc := "(Ljava/lang/Object;)Z" } : Jvm.MethodName)) ∈ lw_all := lw_g (lw_at lw_m3 10 rfl) rfl
theorem q629 : (Jvm.Cond.instanceMethod ({ cls := "MatchmakerRules$Firing", name := "isLike", desc := "(LMatchmakerRules$Firing;)Z" } : Jvm.MethodName)) ∈ lw_all := lw_g (lw_at lw_m3 53 rfl) rfl
theorem q630 : (Jvm.Cond.selects "MatchmakerRules$Firing" ({ cls := "MatchmakerRules$Firing", name := "isLike", desc := "(LMatchmakerRules$Firing;)Z" } : Jvm.MethodName) ({ cls := "MatchmakerRules$Firing", name := "isLike", desc := "(LMatchmakerRules$Firing;)Z" } : Jvm.MethodName)) ∈ lw_all := lw_g (lw_at lw_m3 54 rfl) rfl
theorem q631 : (Jvm.Cond.code ({ cls := "MatchmakerRules$Firing", name := "isLike", desc := "(LMatchmakerRules$Firing;)Z" } : Jvm.MethodName) prog_6_method_4_code (2 : Nat) (Option.some Jvm.ClassFile.FieldType.boolean)) ∈ lw_all := lw_g (lw_at lw_m3 55 rfl) rfl
theorem q944 : (Jvm.Cond.selects "MatchmakerRules$Firing" ({ cls := "java/lang/Object", name := "getClass", desc := "()Ljava/lang/Class;" } : Jvm.MethodName) ({ cls := "java/lang/Object", name := "getClass", desc := "()Ljava/lang/Class;" } : Jvm.MethodName)) ∈ lw_all := lw_g (lw_at lw_m4 128 rfl) rfl
theorem q1145 : (Jvm.Cond.instanceMethod ({ cls := "MatchmakerRules$Firing", name := "has", desc := "(I)Z" } : Jvm.MethodName)) ∈ lw_all := lw_g (lw_at lw_m5 89 rfl) rfl
theorem q1146 : (Jvm.Cond.selects "MatchmakerRules$Firing" ({ cls := "MatchmakerRules$Firing", name := "has", desc := "(I)Z" } : Jvm.MethodName) ({ cls := "MatchmakerRules$Firing", name := "has", desc := "(I)Z" } : Jvm.MethodName)) ∈ lw_all := lw_g (lw_at lw_m5 90 rfl) rfl
theorem q1147 : (Jvm.Cond.code ({ cls := "MatchmakerRules$Firing", name := "has", desc := "(I)Z" } : Jvm.MethodName) prog_6_method_3_code (2 : Nat) (Option.some Jvm.ClassFile.FieldType.boolean)) ∈ lw_all := lw_g (lw_at lw_m5 91 rfl) rfl
theorem q1180 : (Jvm.Cond.instantiable "MatchmakerRules$Firing" (3 : Nat)) ∈ lw_all := lw_g (lw_at lw_m5 124 rfl) rfl
theorem q1182 : (Jvm.Cond.instanceMethod ({ cls := "MatchmakerRules$Firing", name := "<init>", desc := "()V" } : Jvm.MethodName)) ∈ lw_all := lw_g (lw_at lw_m5 126 rfl) rfl
theorem q1183 : (Jvm.Cond.code ({ cls := "MatchmakerRules$Firing", name := "<init>", desc := "()V" } : Jvm.MethodName) prog_6_method_1_code (1 : Nat) (Option.none : Option Jvm.ClassFile.FieldType)) ∈ lw_all := lw_g (lw_at lw_m5 127 rfl) rfl
theorem q1184 : (Jvm.Cond.methodLink "MatchmakerRules$Firing" (3 : Nat) ({ cls := "java/lang/Object", name := "<init>", desc := "()V" } : Jvm.MethodName)) ∈ lw_all := lw_g (lw_at lw_m5 128 rfl) rfl
theorem q1185 : (Jvm.Cond.fieldLink "MatchmakerRules$Firing" (18 : Nat) "MatchmakerRules$Firing" "rule" "LMatchmakerRules$Rule;") ∈ lw_all := lw_g (lw_at lw_m5 129 rfl) rfl
theorem q1188 : (Jvm.Cond.fieldLink "MatchmakerRules$Firing" (9 : Nat) "MatchmakerRules$Firing" "first" "I") ∈ lw_all := lw_g (lw_at lw_m5 132 rfl) rfl
theorem q1191 : (Jvm.Cond.fieldLink "MatchmakerRules$Firing" (15 : Nat) "MatchmakerRules$Firing" "second" "I") ∈ lw_all := lw_g (lw_at lw_m5 135 rfl) rfl
theorem q1194 : (Jvm.Cond.lays "MatchmakerRules$Firing" "MatchmakerRules$Firing" "rule" "LMatchmakerRules$Rule;") ∈ lw_all := lw_g (lw_at lw_m5 138 rfl) rfl
theorem q1195 : (Jvm.Cond.soleField "MatchmakerRules$Firing" "rule") ∈ lw_all := lw_g (lw_at lw_m5 139 rfl) rfl
theorem q1196 : (Jvm.Cond.lays "MatchmakerRules$Firing" "MatchmakerRules$Firing" "first" "I") ∈ lw_all := lw_g (lw_at lw_m5 140 rfl) rfl
theorem q1197 : (Jvm.Cond.soleField "MatchmakerRules$Firing" "first") ∈ lw_all := lw_g (lw_at lw_m5 141 rfl) rfl
theorem q1198 : (Jvm.Cond.lays "MatchmakerRules$Firing" "MatchmakerRules$Firing" "second" "I") ∈ lw_all := lw_g (lw_at lw_m5 142 rfl) rfl
theorem q1199 : (Jvm.Cond.soleField "MatchmakerRules$Firing" "second") ∈ lw_all := lw_g (lw_at lw_m5 143 rfl) rfl
theorem q1200 : (Jvm.Cond.superclass "MatchmakerRules$Firing" "java/lang/Object") ∈ lw_all := lw_g (lw_at lw_m5 144 rfl) rfl
theorem q1211 : (Jvm.Cond.instanceMethod ({ cls := "MatchmakerRules$Firing", name := "newest", desc := "()I" } : Jvm.MethodName)) ∈ lw_all := lw_g (lw_at lw_m5 155 rfl) rfl
theorem q1212 : (Jvm.Cond.selects "MatchmakerRules$Firing" ({ cls := "MatchmakerRules$Firing", name := "newest", desc := "()I" } : Jvm.MethodName) ({ cls := "MatchmakerRules$Firing", name := "newest", desc := "()I" } : Jvm.MethodName)) ∈ lw_all := lw_g (lw_at lw_m5 156 rfl) rfl
theorem q1213 : (Jvm.Cond.code ({ cls := "MatchmakerRules$Firing", name := "newest", desc := "()I" } : Jvm.MethodName) prog_6_method_5_code (1 : Nat) (Option.some Jvm.ClassFile.FieldType.int)) ∈ lw_all := lw_g (lw_at lw_m5 157 rfl) rfl
theorem q1214 : (Jvm.Cond.methodLink "MatchmakerRules$Firing" (22 : Nat) ({ cls := "java/lang/Math", name := "max", desc := "(II)I" } : Jvm.MethodName)) ∈ lw_all := lw_g (lw_at lw_m5 158 rfl) rfl
theorem q1221 : (Jvm.Cond.instanceMethod ({ cls := "MatchmakerRules$Firing", name := "become", desc := "(LMatchmakerRules$Rule;II)V" } : Jvm.MethodName)) ∈ lw_all := lw_g (lw_at lw_m5 165 rfl) rfl
theorem q1222 : (Jvm.Cond.selects "MatchmakerRules$Firing" ({ cls := "MatchmakerRules$Firing", name := "become", desc := "(LMatchmakerRules$Rule;II)V" } : Jvm.MethodName) ({ cls := "MatchmakerRules$Firing", name := "become", desc := "(LMatchmakerRules$Rule;II)V" } : Jvm.MethodName)) ∈ lw_all := lw_g (lw_at lw_m5 166 rfl) rfl
theorem q1223 : (Jvm.Cond.code ({ cls := "MatchmakerRules$Firing", name := "become", desc := "(LMatchmakerRules$Rule;II)V" } : Jvm.MethodName) prog_6_method_2_code (4 : Nat) (Option.none : Option Jvm.ClassFile.FieldType)) ∈ lw_all := lw_g (lw_at lw_m5 167 rfl) rfl
theorem q2547 : (Jvm.Cond.castable "MatchmakerRules$Firing" "java/lang/Object") ∈ lw_tbl := lw_at lw_m11 51 rfl
theorem in_X12 : ∀ w ∈ wsX120, w ∈ lw_all := lw_in wsX120 [1194, 1196, 1198] (by decide +kernel) (by decide +kernel)
theorem q643 : (Jvm.Cond.interfaceMethod "MatchmakerRules$Test" "MatchmakerRules$Test" "isSo" "(LMatchmakerRules$Firing;)Z") ∈ lw_tbl := lw_at lw_m3 67 rfl
set_option maxRecDepth 100000
theorem q644 : (Jvm.Cond.declares ({ cls := "MatchmakerRules$Test", name := "isSo", desc := "(LMatchmakerRules$Firing;)Z" } : Jvm.MethodName)) ∈ lw_tbl := lw_at lw_m3 68 rfl
theorem q1579 : (Jvm.Cond.sameMethod "[B" "java/lang/Object" "clone" "()Ljava/lang/Object;") ∈ lw_all := lw_g (lw_at lw_m7 43 rfl) rfl
set_option maxRecDepth 100000
theorem q1580 : (Jvm.Cond.selects "[B" ({ cls := "[B", name := "clone", desc := "()Ljava/lang/Object;" } : Jvm.MethodName) ({ cls := "java/lang/Object", name := "clone", desc := "()Ljava/lang/Object;" } : Jvm.MethodName)) ∈ lw_all := lw_g (lw_at lw_m7 44 rfl) rfl
theorem q1581 : (Jvm.Cond.castable "[B" "java/lang/Cloneable") ∈ lw_tbl := lw_at lw_m7 45 rfl
theorem q2559 : (Jvm.Cond.castable "[B" "java/lang/Object") ∈ lw_tbl := lw_at lw_m11 63 rfl
theorem q2563 : (Jvm.Cond.castable "[D" "java/lang/Object") ∈ lw_tbl := lw_at lw_m11 67 rfl
set_option maxRecDepth 100000
theorem q1873 : (Jvm.Cond.sameMethod "[F" "java/lang/Object" "clone" "()Ljava/lang/Object;") ∈ lw_all := lw_g (lw_at lw_m8 97 rfl) rfl
set_option maxRecDepth 100000
theorem q1874 : (Jvm.Cond.selects "[F" ({ cls := "[F", name := "clone", desc := "()Ljava/lang/Object;" } : Jvm.MethodName) ({ cls := "java/lang/Object", name := "clone", desc := "()Ljava/lang/Object;" } : Jvm.MethodName)) ∈ lw_all := lw_g (lw_at lw_m8 98 rfl) rfl
theorem q1875 : (Jvm.Cond.castable "[F" "java/lang/Cloneable") ∈ lw_tbl := lw_at lw_m8 99 rfl
theorem q2560 : (Jvm.Cond.castable "[F" "java/lang/Object") ∈ lw_tbl := lw_at lw_m11 64 rfl
theorem q822 : (Jvm.Cond.sameMethod "[I" "java/lang/Object" "clone" "()Ljava/lang/Object;") ∈ lw_all := lw_g (lw_at lw_m4 6 rfl) rfl
set_option maxRecDepth 100000
theorem q825 : (Jvm.Cond.selects "[I" ({ cls := "[I", name := "clone", desc := "()Ljava/lang/Object;" } : Jvm.MethodName) ({ cls := "java/lang/Object", name := "clone", desc := "()Ljava/lang/Object;" } : Jvm.MethodName)) ∈ lw_all := lw_g (lw_at lw_m4 9 rfl) rfl
theorem q826 : (Jvm.Cond.castable "[I" "java/lang/Cloneable") ∈ lw_tbl := lw_at lw_m4 10 rfl
theorem q2557 : (Jvm.Cond.castable "[I" "java/lang/Object") ∈ lw_tbl := lw_at lw_m11 61 rfl
theorem q2562 : (Jvm.Cond.castable "[J" "java/lang/Object") ∈ lw_tbl := lw_at lw_m11 66 rfl
set_option maxRecDepth 100000
theorem q2554 : (Jvm.Cond.sameMethod "[Ljava/lang/Object;" "java/lang/Object" "getClass" "()Ljava/lang/Class;") ∈ lw_all := lw_g (lw_at lw_m11 58 rfl) rfl
set_option maxRecDepth 100000
theorem q2555 : (Jvm.Cond.selects "[Ljava/lang/Object;" ({ cls := "java/lang/Object", name := "getClass", desc := "()Ljava/lang/Class;" } : Jvm.MethodName) ({ cls := "java/lang/Object", name := "getClass", desc := "()Ljava/lang/Class;" } : Jvm.MethodName)) ∈ lw_all := lw_g (lw_at lw_m11 59 rfl) rfl
theorem q2558 : (Jvm.Cond.castable "[Ljava/lang/Object;" "java/lang/Object") ∈ lw_tbl := lw_at lw_m11 62 rfl
theorem q2561 : (Jvm.Cond.castable "[Z" "java/lang/Object") ∈ lw_tbl := lw_at lw_m11 65 rfl
set_option maxRecDepth 100000
theorem q708 : (Jvm.Cond.interfaceMethod "java/lang/CharSequence" "java/lang/CharSequence" "length" "()I") ∈ lw_tbl := lw_at lw_m3 132 rfl
set_option maxRecDepth 100000
theorem q709 : (Jvm.Cond.declares ({ cls := "java/lang/CharSequence", name := "length", desc := "()I" } : Jvm.MethodName)) ∈ lw_tbl := lw_at lw_m3 133 rfl
theorem q731 : (Jvm.Cond.interfaceMethod "java/lang/CharSequence" "java/lang/CharSequence" "charAt" "(I)C") ∈ lw_tbl := lw_at lw_m3 155 rfl
theorem q732 : (Jvm.Cond.declares ({ cls := "java/lang/CharSequence", name := "charAt", desc := "(I)C" } : Jvm.MethodName)) ∈ lw_tbl := lw_at lw_m3 156 rfl
theorem q133 : (Jvm.Cond.initialized "java/lang/Number") ∈ lw_all := lw_g (lw_at lw_m1 37 rfl) rfl
set_option maxRecDepth 100000
theorem q125 : (Jvm.Cond.initialized "java/lang/System") ∈ lw_all := lw_g (lw_at lw_m1 29 rfl) rfl
set_option maxRecDepth 100000
theorem q522 : (Jvm.Cond.static ({ cls := "java/lang/System", name := "arraycopy", desc := "(Ljava/lang/Object;ILjava/lang/Object;II)V" } : Jvm.MethodName)) ∈ lw_all := lw_g (lw_at lw_m2 186 rfl) rfl
theorem q523 : (Jvm.Cond.native ({ cls := "java/lang/System", name := "arraycopy", desc := "(Ljava/lang/Object;ILjava/lang/Object;II)V" } : Jvm.MethodName)) ∈ lw_all := lw_g (lw_at lw_m2 187 rfl) rfl
theorem q376 : (Jvm.Cond.interfaceMethod "java/util/Iterator" "java/util/Iterator" "hasNext" "()Z") ∈ lw_tbl := lw_at lw_m2 40 rfl
set_option maxRecDepth 100000
theorem q377 : (Jvm.Cond.declares ({ cls := "java/util/Iterator", name := "hasNext", desc := "()Z" } : Jvm.MethodName)) ∈ lw_tbl := lw_at lw_m2 41 rfl
theorem q386 : (Jvm.Cond.interfaceMethod "java/util/Iterator" "java/util/Iterator" "next" "()Ljava/lang/Object;") ∈ lw_tbl := lw_at lw_m2 50 rfl
theorem q387 : (Jvm.Cond.declares ({ cls := "java/util/Iterator", name := "next", desc := "()Ljava/lang/Object;" } : Jvm.MethodName)) ∈ lw_tbl := lw_at lw_m2 51 rfl
theorem q1098 : (Jvm.Cond.interfaceMethod "java/util/Iterator" "java/util/Iterator" "remove" "()V") ∈ lw_tbl := lw_at lw_m5 42 rfl
theorem q1099 : (Jvm.Cond.declares ({ cls := "java/util/Iterator", name := "remove", desc := "()V" } : Jvm.MethodName)) ∈ lw_tbl := lw_at lw_m5 43 rfl
theorem q188 : (Jvm.Cond.arrayClass Jvm.ClassFile.FieldType.int) ∈ lw_all := lw_g (lw_at lw_m1 92 rfl) rfl
set_option maxRecDepth 100000
theorem q255 : (Jvm.Cond.arrayOver (Jvm.ClassFile.FieldType.object "java/lang/Object")) ∈ lw_tbl := lw_at lw_m1 159 rfl
theorem q298 : (Jvm.Cond.arrayClass Jvm.ClassFile.FieldType.byte) ∈ lw_all := lw_g (lw_at lw_m1 202 rfl) rfl
theorem q1844 : (Jvm.Cond.arrayClass Jvm.ClassFile.FieldType.float) ∈ lw_all := lw_g (lw_at lw_m8 68 rfl) rfl
theorem q2097 : (Jvm.Cond.arrayClass Jvm.ClassFile.FieldType.boolean) ∈ lw_all := lw_g (lw_at lw_m9 81 rfl) rfl
theorem q2507 : (Jvm.Cond.arrayClass Jvm.ClassFile.FieldType.long) ∈ lw_all := lw_g (lw_at lw_m11 11 rfl) rfl
theorem q2508 : (Jvm.Cond.arrayClass Jvm.ClassFile.FieldType.double) ∈ lw_all := lw_g (lw_at lw_m11 12 rfl) rfl
